section
/-! pure rows: small ints, the script's masks -/
theorem rk_m1 {j : Nat} (h : j < 2 ^ 31) : ¬ nI j = -1 := by
  intro e
  have t := congrArg Int32.toInt e
  rw [nI_toInt h, show (-1 : Int32).toInt = -1 from by decide] at t
  omega
theorem rk_l (z : Int32) : ∃ l : Nat, l < 6 ∧ (z &&& 7) - (z &&& 7) / 6 * 6 = nI l := by
  obtain ⟨j, hj, e⟩ := pk_andE z (m := 7) 3 (by decide)
  refine ⟨j % 6, Nat.mod_lt _ (by decide), ?_⟩
  rw [e]
  exact pk_rem (d := 6) (by omega) (by decide) (by decide)
theorem rk_k (z : Int32) : ∃ k : Nat, k < 16 ∧ (z >>> ((3 : Int32) &&& 31)) &&& 15 = nI k := by
  obtain ⟨j, hj, e⟩ := pk_andE (z >>> ((3 : Int32) &&& 31)) (m := 15) 4 (by decide)
  exact ⟨j, by omega, e⟩
theorem rk_len (y : Int32) : ∃ m : Nat, 1 ≤ m ∧ m ≤ 50 ∧ 1 + ((y &&& 63) - (y &&& 63) / 50 * 50) = nI m := by
  obtain ⟨j, hj, e⟩ := pk_andE y (m := 63) 6 (by decide)
  have t : nI j - nI j / 50 * 50 = nI (j % 50) := pk_rem (d := 50) (by omega) (by decide) (by decide)
  refine ⟨1 + j % 50, by omega, by omega, ?_⟩
  rw [e, t]
  exact nI_add 1 (j % 50)
theorem rk_n (y : Int32) : ∃ n : Nat, n < 64 ∧ (y >>> ((6 : Int32) &&& 31)) &&& 63 = nI n := by
  obtain ⟨j, hj, e⟩ := pk_andE (y >>> ((6 : Int32) &&& 31)) (m := 63) 6 (by decide)
  exact ⟨j, by omega, e⟩
theorem rk_cell {post : Int32 → Prop} {L : Nat} {xs : Nat → Int32} {u : St0} (hL : L ≤ 3) (i : Nat) (hi : i < 3) (H : ∀ r, post r) : wpL_cellAt post L xs u (nI i) :=
  pk_le L i (fun _ => H _) (fun z => ⟨pk_in i L z, H _⟩)
end
section
section
variable {fc fo fp ff fn : Int32} {a1 a2 a3 a4 a5 a6 a7 a8 a9 a10 a11 a12 a13 a14 a15 a16 a17 a18 a19 a20 a21 a22 a23 : Nat → Int32}
theorem rk_bl {post : Int32 → Prop} {l : Nat} (hl : l < 6) (h : post 0) : wpX_badLease post (fc, fo, fp, ff, fn, a1, a2, a3, a4, a5, a6, a7, a8, a9, a10, a11, a12, a13, a14, a15, a16, a17, a18, a19, a20, a21, a22, a23) (nI l) :=
  pk_lt l 0 (fun z => absurd z (by omega)) (fun _ => pk_lt l 6 (fun _ => h) (fun z => absurd z (by omega)))
theorem rk_bk {post : Int32 → Prop} {k : Nat} (hk : k < 16) (h : post 0) : wpX_badKey post (fc, fo, fp, ff, fn, a1, a2, a3, a4, a5, a6, a7, a8, a9, a10, a11, a12, a13, a14, a15, a16, a17, a18, a19, a20, a21, a22, a23) (nI k) :=
  pk_lt k 0 (fun z => absurd z (by omega)) (fun _ => pk_lt k 16 (fun _ => h) (fun z => absurd z (by omega)))
theorem rk_ex0 {post : Int32 → Prop} {k : Nat} (hk : k < 16) (h8 : a8 k = -1) (h : post 0) : wpX_exists post (fc, fo, fp, ff, fn, a1, a2, a3, a4, a5, a6, a7, a8, a9, a10, a11, a12, a13, a14, a15, a16, a17, a18, a19, a20, a21, a22, a23) (nI k) := by
  unfold wpX_exists
  dsimp only
  rw [nI_clamp (show k < 2 ^ 31 by omega)]
  exact ⟨pk_in k 16 hk, br_t h8 h⟩
theorem rk_ex1 {post : Int32 → Prop} {k d : Nat} (hk : k < 16) (hd : d < 140) (h8 : a8 k = nI d) (h4 : ¬ a4 d = 0) (h : post 1) : wpX_exists post (fc, fo, fp, ff, fn, a1, a2, a3, a4, a5, a6, a7, a8, a9, a10, a11, a12, a13, a14, a15, a16, a17, a18, a19, a20, a21, a22, a23) (nI k) := by
  unfold wpX_exists
  dsimp only
  rw [nI_clamp (show k < 2 ^ 31 by omega), h8, nI_clamp (show d < 2 ^ 31 by omega)]
  exact ⟨pk_in k 16 hk, br_f (rk_m1 (by omega)) ⟨pk_in k 16 hk, pk_in d 140 hd, br_f h4 h⟩⟩
theorem rk_init {post : St2 → Prop} (H : ∀ a8 a9 : Nat → Int32, (∀ j, j < 16 → a8 j = -1) → (∀ j, j < 16 → a9 j = -1) → post (0, 0, 0, 0, 0, fun _ => 0, fun _ => 0, fun _ => 0, fun _ => 0, fun _ => 0, fun _ => 0, fun _ => 0, a8, a9, fun _ => 0, fun _ => 0, fun _ => 0, fun _ => 0, fun _ => 0, fun _ => 0, fun _ => 0, fun _ => 0, fun _ => 0, fun _ => 0, fun _ => 0, fun _ => 0, fun _ => 0, fun _ => 0)) : wpX_init post 23 1210 (0, 0, 0, 0, 0) := by
  unfold wpX_init
  dsimp only
  iterate 46 refine ⟨by decide, ?_⟩
  exact pk_loop (fun n i s => wX_init_188 post 23 1210 23 1210 0 0 0 0 0 n (nI i) (fun _ => 0) (fun _ => 0) (fun _ => 0) (fun _ => 0) (fun _ => 0) (fun _ => 0) (fun _ => 0) s.1 s.2 (fun _ => 0) (fun _ => 0) (fun _ => 0) (fun _ => 0) (fun _ => 0) (fun _ => 0) (fun _ => 0) (fun _ => 0) (fun _ => 0) (fun _ => 0) (fun _ => 0) (fun _ => 0) (fun _ => 0) (fun _ => 0))
    (fun i s => (∀ j, j < i → s.1 j = -1) ∧ (∀ j, j < i → s.2 j = -1)) 16 0 ((fun _ => 0, fun _ => 0) : (Nat → Int32) × (Nat → Int32)) (by omega) ⟨lt_0, lt_0⟩
    (fun n s h => pk_le 16 16 (fun _ => H s.1 s.2 h.1 h.2) (fun z => absurd z (by omega)))
    (fun n i s hi h hw => pk_le 16 i (fun z => absurd z (by omega)) (fun _ => ⟨pk_in i 16 hi, nm_r (e' := upd s.1 i (-1)) (by rw [nI_clamp (by omega)]) ⟨pk_in i 16 hi, nm_r (e' := upd s.2 i (-1)) (by rw [nI_clamp (by omega)]) (nm_r (nI_1 i) (hw (upd s.1 i (-1), upd s.2 i (-1)) ⟨lt_s (fun j hj => by dsimp only; rw [pk_un (by omega)]; exact h.1 j hj) pk_us, lt_s (fun j hj => by dsimp only; rw [pk_un (by omega)]; exact h.2 j hj) pk_us⟩))⟩⟩))
theorem rk_grant {post : Int32 → St2 → Prop} {l m : Nat} (hl : l < 6) (h1 : 1 ≤ m) (h2 : m ≤ 50) (h0 : a11 l = 0) (hp : post (fn + nI m) (fc, fo, fp, ff, fn, a1, a2, a3, a4, a5, a6, a7, a8, a9, a10, upd a11 l 1, upd a12 l (nI m), upd a13 l (fn + nI m), a14, a15, a16, a17, a18, a19, a20, a21, a22, a23)) : wpX_grant post (fc, fo, fp, ff, fn, a1, a2, a3, a4, a5, a6, a7, a8, a9, a10, a11, a12, a13, a14, a15, a16, a17, a18, a19, a20, a21, a22, a23) (nI l) (nI m) := by
  unfold wpX_grant
  dsimp only
  refine rk_bl hl (br_t rfl (pk_lt m 1 (fun z => absurd z (by omega)) (fun _ => pk_le m 50 (fun _ => ⟨pk_in l 6 hl, ?_⟩) (fun z => absurd z (by omega)))))
  rw [nI_clamp (show l < 2 ^ 31 by omega)]
  exact br_t h0 ⟨pk_in l 6 hl, nm_e ⟨pk_in l 6 hl, nm_e ⟨pk_in l 6 hl, nm_e ⟨pk_in l 6 hl, by rw [pk_us]; exact hp⟩⟩⟩⟩
end
end
section
section
variable {fc fo fp ff fn : Int32} {a1 a2 a3 a4 a5 a6 a7 a8 a9 a10 a11 a12 a13 a14 a15 a16 a17 a18 a19 a20 a21 a22 a23 : Nat → Int32}
/-- a change of a key that has none yet: put -/
theorem rk_note0 {post : St2 → Prop} {k c : Nat} {x : Int32} (hk : k < 16) (hc : c < 140) (h8 : a8 k = -1)
    (hp : post (nI (c + 1), fo, fp, ff, fn, upd a1 c fp, upd a2 c (nI k), upd a3 c x, upd a4 c 1, upd a5 c fp, upd a6 c 1, upd a7 c (-1), upd a8 k (nI c), a9, a10, a11, a12, a13, a14, a15, a16, a17, a18, a19, a20, a21, a22, a23)) : wpX_note post (nI c, fo, fp, ff, fn, a1, a2, a3, a4, a5, a6, a7, a8, a9, a10, a11, a12, a13, a14, a15, a16, a17, a18, a19, a20, a21, a22, a23) (nI k) 1 x := by
  have ek : (nI k).toNatClampNeg = k := nI_clamp (by omega)
  have ec : (nI c).toNatClampNeg = c := nI_clamp (by omega)
  unfold wpX_note
  dsimp only
  refine ⟨pk_in k 16 hk, nm_r (e' := -1) (by rw [ek]; exact h8) (rk_ex0 hk h8 ?_)⟩
  rw [ec]
  refine ⟨pk_in c 140 hc, nm_e ⟨pk_in c 140 hc, nm_e ⟨pk_in c 140 hc, nm_r (e' := upd a4 c 1) (by rfl) (br_f (by decide) ?_)⟩⟩⟩
  unfold wX_note_63
  rw [ec]
  refine ⟨pk_in c 140 hc, nm_e (br_t rfl ?_)⟩
  unfold wX_note_89
  rw [ec]
  refine ⟨pk_in c 140 hc, nm_e (br_t rfl ?_)⟩
  unfold wX_note_114
  rw [ec, ek]
  exact ⟨pk_in c 140 hc, nm_e ⟨pk_in c 140 hc, nm_e ⟨pk_in k 16 hk, nm_e (nm_r (nI_1 c) hp)⟩⟩⟩
/-- a change of a key that is there, last changed at place d: erased -/
theorem rk_note1 {post : St2 → Prop} {k c d : Nat} (hk : k < 16) (hc : c < 140) (hd : d < 140) (h8 : a8 k = nI d) (h4 : ¬ a4 d = 0)
    (hp : post (nI (c + 1), fo, fp, ff, fn, upd a1 c fp, upd a2 c (nI k), upd a3 c 0, upd a4 c 0, upd a5 c (a5 d), upd a6 c (a6 d + 1), upd a7 c (nI d), upd a8 k (nI c), a9, a10, a11, a12, a13, a14, a15, a16, a17, a18, a19, a20, a21, a22, a23)) : wpX_note post (nI c, fo, fp, ff, fn, a1, a2, a3, a4, a5, a6, a7, a8, a9, a10, a11, a12, a13, a14, a15, a16, a17, a18, a19, a20, a21, a22, a23) (nI k) 0 0 := by
  have ek : (nI k).toNatClampNeg = k := nI_clamp (by omega)
  have ec : (nI c).toNatClampNeg = c := nI_clamp (by omega)
  have ed : (nI d).toNatClampNeg = d := nI_clamp (by omega)
  unfold wpX_note
  dsimp only
  refine ⟨pk_in k 16 hk, nm_r (e' := nI d) (by rw [ek]; exact h8) (rk_ex1 hk hd h8 h4 ?_)⟩
  rw [ec]
  refine ⟨pk_in c 140 hc, nm_e ⟨pk_in c 140 hc, nm_e ⟨pk_in c 140 hc, nm_r (e' := upd a4 c 0) (by rfl) (br_t rfl ?_)⟩⟩⟩
  unfold wX_note_63
  rw [ec, ed]
  refine ⟨pk_in c 140 hc, nm_e (br_f (by decide) ⟨pk_in d 140 hd, ?_⟩)⟩
  unfold wX_note_89
  rw [ec, ed]
  refine ⟨pk_in c 140 hc, nm_e (br_f (by decide) ⟨pk_in d 140 hd, ?_⟩)⟩
  unfold wX_note_114
  rw [ec, ek]
  exact ⟨pk_in c 140 hc, nm_e ⟨pk_in c 140 hc, nm_e ⟨pk_in k 16 hk, nm_e (nm_r (nI_1 c) hp)⟩⟩⟩
theorem rk_putNow {post : Int32 → St2 → Prop} {k c p : Nat} {x y : Int32} (hk : k < 16) (hc : c < 140) (h8 : a8 k = -1)
    (hp : post (nI (p + 1)) (nI (c + 1), fo, nI (p + 1), ff, fn, upd a1 c (nI (p + 1)), upd a2 c (nI k), upd a3 c x, upd a4 c 1, upd a5 c (nI (p + 1)), upd a6 c 1, upd a7 c (-1), upd a8 k (nI c), upd a9 k y, a10, a11, a12, a13, a14, a15, a16, a17, a18, a19, a20, a21, a22, a23)) : wpX_putNow post (nI c, fo, nI p, ff, fn, a1, a2, a3, a4, a5, a6, a7, a8, a9, a10, a11, a12, a13, a14, a15, a16, a17, a18, a19, a20, a21, a22, a23) (nI k) x y := by
  unfold wpX_putNow
  dsimp only
  refine nm_r (nI_1 p) (rk_note0 hk hc h8 ?_)
  dsimp only
  exact ⟨pk_in k 16 hk, nm_r (e' := upd a9 k y) (by rw [nI_clamp (by omega)]) hp⟩
theorem rk_put {post : Int32 → St2 → Prop} {k l c p : Nat} {x : Int32} (hk : k < 16) (hl : l < 6) (hc : c < 100) (h8 : a8 k = -1) (h11 : ¬ a11 l = 0)
    (hp : post (nI (p + 1)) (nI (c + 1), nI 0, nI (p + 1), ff, fn, upd a1 c (nI (p + 1)), upd a2 c (nI k), upd a3 c x, upd a4 c 1, upd a5 c (nI (p + 1)), upd a6 c 1, upd a7 c (-1), upd a8 k (nI c), upd a9 k (nI l), a10, a11, a12, a13, a14, a15, a16, a17, a18, a19, a20, a21, a22, a23)) : wpX_put post (nI c, nI 0, nI p, ff, fn, a1, a2, a3, a4, a5, a6, a7, a8, a9, a10, a11, a12, a13, a14, a15, a16, a17, a18, a19, a20, a21, a22, a23) (nI k) x (nI l) := by
  unfold wpX_put
  dsimp only
  refine rk_bk hk (br_t rfl (br_f (rk_m1 (by omega)) (rk_bl hl (br_t rfl ?_))))
  unfold wX_put_24
  rw [nI_clamp (show l < 2 ^ 31 by omega)]
  refine br_f (rk_m1 (by omega)) ⟨pk_in l 6 hl, br_f h11 ?_⟩
  unfold wX_put_41 wpX_rememberedNow
  dsimp only
  exact pk_lt c 100 (fun _ => rk_putNow hk (by omega) h8 hp) (fun z => absurd z (by omega)) (hx := pk_sub (b := 0) (by omega))
theorem rk_eraseNow {post : St2 → Prop} {k c d : Nat} (hk : k < 16) (hc : c < 140) (hd : d < 140) (h8 : a8 k = nI d) (h4 : ¬ a4 d = 0)
    (hp : post (nI (c + 1), fo, fp, ff, fn, upd a1 c fp, upd a2 c (nI k), upd a3 c 0, upd a4 c 0, upd a5 c (a5 d), upd a6 c (a6 d + 1), upd a7 c (nI d), upd a8 k (nI c), upd a9 k (-1), a10, a11, a12, a13, a14, a15, a16, a17, a18, a19, a20, a21, a22, a23)) : wpX_eraseNow post (nI c, fo, fp, ff, fn, a1, a2, a3, a4, a5, a6, a7, a8, a9, a10, a11, a12, a13, a14, a15, a16, a17, a18, a19, a20, a21, a22, a23) (nI k) := by
  unfold wpX_eraseNow
  dsimp only
  refine rk_note1 hk hc hd h8 h4 ?_
  dsimp only
  exact ⟨pk_in k 16 hk, nm_r (e' := upd a9 k (-1)) (by rw [nI_clamp (by omega)]) hp⟩
end
end
section
section
variable {fc fo fp ff fn : Int32} {a1 a2 a3 a4 a5 a6 a7 a8 a9 a10 a11 a12 a13 a14 a15 a16 a17 a18 a19 a20 a21 a22 a23 : Nat → Int32}
/-- one key alone is under the lease: one is counted -/
theorem rk_under {post : Int32 → Prop} {k l : Nat} (hk : k < 16) (h9 : a9 k = nI l) (ho : ∀ j, j < 16 → j ≠ k → ¬ a9 j = nI l) (hp : post (nI 1)) : wpX_keysUnder post (fc, fo, fp, ff, fn, a1, a2, a3, a4, a5, a6, a7, a8, a9, a10, a11, a12, a13, a14, a15, a16, a17, a18, a19, a20, a21, a22, a23) (nI l) := by
  obtain ⟨n, hn⟩ := pk_loop (σ := Unit) (fun n i _ => wX_keysUnder_4 post (nI l) fc fo fp ff fn a1 a2 a3 a4 a5 a6 a7 a8 a9 a10 a11 a12 a13 a14 a15 a16 a17 a18 a19 a20 a21 a22 a23 n (nI (if k < i then 1 else 0)) (nI i)) (fun _ _ => True) 16 0 () (by omega) trivial
    (fun n _ _ => pk_le 16 16 (fun _ => by rw [if_pos hk]; exact hp) (fun z => absurd z (by omega)))
    (fun n i _ hi _ hw => pk_le 16 i (fun z => absurd z (by omega)) (fun _ => ⟨pk_in i 16 hi, by
      have t := hw () trivial
      rw [nI_clamp (show i < 2 ^ 31 by omega)]
      by_cases e : i = k
      · subst e
        rw [if_pos (by omega)] at t
        rw [if_neg (by omega)]
        exact br_t h9 (nm_r (nI_1 0) (nm_r (nI_1 i) t))
      · have q : (if k < i + 1 then 1 else 0) = (if k < i then 1 else 0) := by
          by_cases z : k < i
          · rw [if_pos z, if_pos (by omega)]
          · rw [if_neg z, if_neg (by omega)]
        rw [q] at t
        exact br_f (ho i hi e) (nm_r (nI_1 i) t)⟩))
  rw [if_neg (by omega)] at hn
  exact ⟨n, hn⟩
theorem rk_keysOf {post : Int32 → Prop} {k l : Nat} (hk : k < 16) (hl : l < 6) (h11 : ¬ a11 l = 0) (h9 : a9 k = nI l) (ho : ∀ j, j < 16 → j ≠ k → ¬ a9 j = nI l) (hp : post (nI 1)) : wpX_keysOf post (fc, fo, fp, ff, fn, a1, a2, a3, a4, a5, a6, a7, a8, a9, a10, a11, a12, a13, a14, a15, a16, a17, a18, a19, a20, a21, a22, a23) (nI l) := by
  unfold wpX_keysOf
  dsimp only
  refine rk_bl hl (br_t rfl ⟨pk_in l 6 hl, ?_⟩)
  rw [nI_clamp (show l < 2 ^ 31 by omega)]
  exact br_f h11 (rk_under hk h9 ho hp)
/-- every lease is shut: none ends first -/
theorem rk_first0 {post : Int32 → Prop} (h : ∀ j, j < 6 → a11 j = 0) (hp : post (-1)) : wpX_firstToEnd post (fc, fo, fp, ff, fn, a1, a2, a3, a4, a5, a6, a7, a8, a9, a10, a11, a12, a13, a14, a15, a16, a17, a18, a19, a20, a21, a22, a23) :=
  pk_loop (σ := Unit) (fun n i _ => wX_firstToEnd_4 post fc fo fp ff fn a1 a2 a3 a4 a5 a6 a7 a8 a9 a10 a11 a12 a13 a14 a15 a16 a17 a18 a19 a20 a21 a22 a23 n (-1) (nI i)) (fun _ _ => True) 6 0 () (by omega) trivial
    (fun n _ _ => pk_le 6 6 (fun _ => hp) (fun z => absurd z (by omega)))
    (fun n i _ hi _ hw => pk_le 6 i (fun z => absurd z (by omega)) (fun _ => ⟨pk_in i 6 hi, br_t (by rw [nI_clamp (by omega)]; exact h i hi) (nm_r (nI_1 i) (hw () trivial))⟩))
/-- one lease alone runs: it ends first -/
theorem rk_first1 {post : Int32 → Prop} {l : Nat} (hl : l < 6) (h1 : ¬ a11 l = 0) (h : ∀ j, j < 6 → j ≠ l → a11 j = 0) (hp : post (nI l)) : wpX_firstToEnd post (fc, fo, fp, ff, fn, a1, a2, a3, a4, a5, a6, a7, a8, a9, a10, a11, a12, a13, a14, a15, a16, a17, a18, a19, a20, a21, a22, a23) := by
  obtain ⟨n, hn⟩ := pk_loop (σ := Unit) (fun n i _ => wX_firstToEnd_4 post fc fo fp ff fn a1 a2 a3 a4 a5 a6 a7 a8 a9 a10 a11 a12 a13 a14 a15 a16 a17 a18 a19 a20 a21 a22 a23 n (if l < i then nI l else -1) (nI i)) (fun _ _ => True) 6 0 () (by omega) trivial
    (fun n _ _ => pk_le 6 6 (fun _ => by rw [if_pos hl]; exact hp) (fun z => absurd z (by omega)))
    (fun n i _ hi _ hw => pk_le 6 i (fun z => absurd z (by omega)) (fun _ => ⟨pk_in i 6 hi, by
      have t := hw () trivial
      rw [nI_clamp (show i < 2 ^ 31 by omega)]
      by_cases e : i = l
      · subst e
        rw [if_pos (by omega)] at t
        rw [if_neg (by omega)]
        exact br_f h1 (br_t rfl (nm_r (nI_1 i) t))
      · have q : (if l < i + 1 then nI l else -1) = (if l < i then nI l else -1) := by
          by_cases z : l < i
          · rw [if_pos z, if_pos (by omega)]
          · rw [if_neg z, if_neg (by omega)]
        rw [q] at t
        exact br_t (h i hi e) (nm_r (nI_1 i) t)⟩))
  rw [if_neg (by omega)] at hn
  exact ⟨n, hn⟩
/-- the rest of endLease's loop: no key is under the lease any more -/
theorem rk_tail {post : Int32 → St2 → Prop} {l : Nat} {x2 : Int32} (hp : post x2 (fc, fo, fp, ff, fn, a1, a2, a3, a4, a5, a6, a7, a8, a9, a10, a11, a12, a13, a14, a15, a16, a17, a18, a19, a20, a21, a22, a23)) : ∀ m i, i + m = 16 → (∀ j, i ≤ j → j < 16 → ¬ a9 j = nI l) → wX_endLease_29 post (nI l) x2 (m + 1) (nI i) fc fo fp ff fn a1 a2 a3 a4 a5 a6 a7 a8 a9 a10 a11 a12 a13 a14 a15 a16 a17 a18 a19 a20 a21 a22 a23 := by
  intro m
  induction m with
  | zero =>
    intro i hi h
    exact pk_le 16 i (fun _ => hp) (fun z => absurd z (by omega))
  | succ m ih =>
    intro i hi h
    exact pk_le 16 i (fun z => absurd z (by omega)) (fun _ => ⟨pk_in i 16 (by omega), br_f (by rw [nI_clamp (by omega)]; exact h i (by omega) (by omega)) (nm_r (nI_1 i) (ih (i + 1) (by omega) (fun j h1 h2 => h j (by omega) h2)))⟩)
/-- the head of endLease's loop: no key below k is under the lease -/
theorem rk_head {post : Int32 → St2 → Prop} {l k N : Nat} {x2 : Int32} (hk : k < 16) (hw : wX_endLease_29 post (nI l) x2 N (nI k) fc fo fp ff fn a1 a2 a3 a4 a5 a6 a7 a8 a9 a10 a11 a12 a13 a14 a15 a16 a17 a18 a19 a20 a21 a22 a23) : ∀ m i, i + m = k → (∀ j, j < k → ¬ a9 j = nI l) → wX_endLease_29 post (nI l) x2 (N + m) (nI i) fc fo fp ff fn a1 a2 a3 a4 a5 a6 a7 a8 a9 a10 a11 a12 a13 a14 a15 a16 a17 a18 a19 a20 a21 a22 a23 := by
  intro m
  induction m with
  | zero =>
    intro i hi h
    have e : i = k := by omega
    subst e
    exact hw
  | succ m ih =>
    intro i hi h
    exact pk_le 16 i (fun z => absurd z (by omega)) (fun _ => ⟨pk_in i 16 (by omega), br_f (by rw [nI_clamp (by omega)]; exact h i (by omega)) (nm_r (nI_1 i) (ih (i + 1) (by omega) h))⟩)
theorem rk_at {post : Int32 → St2 → Prop} {l k c d : Nat} {x2 : Int32} (hk : k < 16) (hc : c < 140) (hd : d < 140) (h9 : a9 k = nI l) (ho : ∀ j, j < 16 → j ≠ k → ¬ a9 j = nI l) (h8 : a8 k = nI d) (h4 : ¬ a4 d = 0)
    (hp : post x2 (nI (c + 1), fo, fp, ff, fn, upd a1 c fp, upd a2 c (nI k), upd a3 c 0, upd a4 c 0, upd a5 c (a5 d), upd a6 c (a6 d + 1), upd a7 c (nI d), upd a8 k (nI c), upd a9 k (-1), a10, a11, a12, a13, a14, a15, a16, a17, a18, a19, a20, a21, a22, a23)) : wX_endLease_29 post (nI l) x2 (15 - k + 1 + 1) (nI k) (nI c) fo fp ff fn a1 a2 a3 a4 a5 a6 a7 a8 a9 a10 a11 a12 a13 a14 a15 a16 a17 a18 a19 a20 a21 a22 a23 := by
  refine pk_le 16 k (fun z => absurd z (by omega)) (fun _ => ⟨pk_in k 16 hk, br_t (by rw [nI_clamp (by omega)]; exact h9) (rk_eraseNow hk hc hd h8 h4 ?_)⟩)
  exact nm_r (nI_1 k) (rk_tail hp (15 - k) (k + 1) (by omega) (fun j h1 h2 => by rw [pk_un (by omega)]; exact ho j h2 (by omega)))
theorem rk_endLease {post : Int32 → St2 → Prop} {l k c d p : Nat} (hl : l < 6) (hk : k < 16) (hc : c < 140) (hd : d < 140) (h9 : a9 k = nI l) (ho : ∀ j, j < 16 → j ≠ k → ¬ a9 j = nI l) (h8 : a8 k = nI d) (h4 : ¬ a4 d = 0)
    (hp : post (nI 1) (nI (c + 1), fo, nI (p + 1), ff, fn, upd a1 c (nI (p + 1)), upd a2 c (nI k), upd a3 c 0, upd a4 c 0, upd a5 c (a5 d), upd a6 c (a6 d + 1), upd a7 c (nI d), upd a8 k (nI c), upd a9 k (-1), a10, upd a11 l 0, a12, a13, a14, a15, a16, a17, a18, a19, a20, a21, a22, a23)) : wpX_endLease post (nI c, fo, nI p, ff, fn, a1, a2, a3, a4, a5, a6, a7, a8, a9, a10, a11, a12, a13, a14, a15, a16, a17, a18, a19, a20, a21, a22, a23) (nI l) := by
  unfold wpX_endLease
  dsimp only
  refine rk_under hk h9 ho ⟨pk_in l 6 hl, nm_r (e' := upd a11 l 0) (by rw [nI_clamp (by omega)]) (pk_le 1 0 (fun z => absurd z (by omega)) (fun _ => nm_r (nI_1 p) ⟨15 - k + 1 + 1 + k, ?_⟩))⟩
  exact rk_head hk (rk_at hk hc hd h9 ho h8 h4 hp) k 0 (by omega) (fun j hj => ho j (by omega) (by omega))
/-- the lease isn't over -/
theorem rk_adv0 {post : Int32 → St2 → Prop} {l n m t : Nat} (hl : l < 6) (hn : n ≤ 100) (h1 : ¬ a11 l = 0) (h : ∀ j, j < 6 → j ≠ l → a11 j = 0) (h13 : a13 l = nI m) (hm : m < 1000) (ht : t < 1000) (hnm : t + n < m)
    (hp : post (nI 0) (fc, fo, fp, ff, nI (t + n), a1, a2, a3, a4, a5, a6, a7, a8, a9, a10, a11, a12, a13, a14, a15, a16, a17, a18, a19, a20, a21, a22, a23)) : wpX_advance post (fc, fo, fp, ff, nI t, a1, a2, a3, a4, a5, a6, a7, a8, a9, a10, a11, a12, a13, a14, a15, a16, a17, a18, a19, a20, a21, a22, a23) (nI n) := by
  unfold wpX_advance
  dsimp only
  refine pk_lt n 0 (fun z => absurd z (by omega)) (fun _ => pk_le n 100 (fun _ => nm_r (nI_add t n) (rk_first1 hl h1 h ⟨1, ?_⟩)) (fun z => absurd z (by omega)))
  exact pk_le 6 0 (fun z => absurd z (by omega)) (fun _ => br_f (rk_m1 (by omega)) ⟨pk_in l 6 hl, br_t (by rw [nI_clamp (by omega), h13]; exact nI_lt hnm (by omega)) hp⟩)
/-- the lease is over -/
theorem rk_adv1 {post : Int32 → St2 → Prop} {l k n m t c d p : Nat} (hl : l < 6) (hk : k < 16) (hc : c < 140) (hd : d < 140) (hn : n ≤ 100) (h1 : ¬ a11 l = 0) (h : ∀ j, j < 6 → j ≠ l → a11 j = 0) (h13 : a13 l = nI m) (hm : m < 1000) (ht : t < 1000) (hnm : m ≤ t + n)
    (h9 : a9 k = nI l) (ho : ∀ j, j < 16 → j ≠ k → ¬ a9 j = nI l) (h8 : a8 k = nI d) (h4 : ¬ a4 d = 0)
    (hp : post (nI 1) (nI (c + 1), fo, nI (p + 1), ff, nI (t + n), upd a1 c (nI (p + 1)), upd a2 c (nI k), upd a3 c 0, upd a4 c 0, upd a5 c (a5 d), upd a6 c (a6 d + 1), upd a7 c (nI d), upd a8 k (nI c), upd a9 k (-1), a10, upd a11 l 0, a12, a13, a14, a15, a16, a17, a18, a19, a20, a21, a22, a23)) : wpX_advance post (nI c, fo, nI p, ff, nI t, a1, a2, a3, a4, a5, a6, a7, a8, a9, a10, a11, a12, a13, a14, a15, a16, a17, a18, a19, a20, a21, a22, a23) (nI n) := by
  unfold wpX_advance
  dsimp only
  refine pk_lt n 0 (fun z => absurd z (by omega)) (fun _ => pk_le n 100 (fun _ => nm_r (nI_add t n) (rk_first1 hl h1 h ⟨2, ?_⟩)) (fun z => absurd z (by omega)))
  refine pk_le 6 0 (fun z => absurd z (by omega)) (fun _ => br_f (rk_m1 (by omega)) ⟨pk_in l 6 hl, br_f (by rw [nI_clamp (by omega), h13]; exact nI_nlt hnm (by omega)) (rk_endLease hl hk hc hd h9 ho h8 h4 ?_)⟩)
  dsimp only
  refine nm_r (nI_1 0) (rk_first0 (fun j hj => ?_) (nm_r (nI_1 0) ?_))
  · by_cases e : j = l
    · rw [e, pk_us]
    · rw [pk_un e]
      exact h j hj e
  · exact pk_le 6 1 (fun z => absurd z (by omega)) (fun _ => br_t rfl hp)
end
end
section
section
variable {fc fo fp ff fn : Int32} {a1 a2 a3 a4 a5 a6 a7 a8 a9 a10 a11 a12 a13 a14 a15 a16 a17 a18 a19 a20 a21 a22 a23 : Nat → Int32}
/-- the last change is at or before r -/
theorem rk_ch0 {post : Int32 → Prop} {k d : Nat} {r : Int32} (hk : k < 16) (hd : d < 140) (h8 : a8 k = nI d) (h1 : a1 d ≤ r) (hp : post (nI d)) : wpX_changeAt post (fc, fo, fp, ff, fn, a1, a2, a3, a4, a5, a6, a7, a8, a9, a10, a11, a12, a13, a14, a15, a16, a17, a18, a19, a20, a21, a22, a23) (nI k) r := by
  unfold wpX_changeAt
  dsimp only
  refine ⟨pk_in k 16 hk, nm_r (e' := nI d) (by rw [nI_clamp (by omega)]; exact h8) ⟨1, ?_⟩⟩
  exact pk_le 140 0 (fun z => absurd z (by omega)) (fun _ => br_f (rk_m1 (by omega)) ⟨pk_in d 140 hd, br_t (by rw [nI_clamp (by omega)]; exact h1) hp⟩)
/-- the last change is behind r, the one before it is not -/
theorem rk_ch1 {post : Int32 → Prop} {k d e : Nat} {r : Int32} (hk : k < 16) (hd : d < 140) (he : e < 140) (h8 : a8 k = nI d) (h1 : ¬ a1 d ≤ r) (h7 : a7 d = nI e) (h2 : a1 e ≤ r) (hp : post (nI e)) : wpX_changeAt post (fc, fo, fp, ff, fn, a1, a2, a3, a4, a5, a6, a7, a8, a9, a10, a11, a12, a13, a14, a15, a16, a17, a18, a19, a20, a21, a22, a23) (nI k) r := by
  unfold wpX_changeAt
  dsimp only
  refine ⟨pk_in k 16 hk, nm_r (e' := nI d) (by rw [nI_clamp (by omega)]; exact h8) ⟨2, ?_⟩⟩
  refine pk_le 140 0 (fun z => absurd z (by omega)) (fun _ => br_f (rk_m1 (by omega)) ⟨pk_in d 140 hd, br_f (by rw [nI_clamp (by omega)]; exact h1) ⟨pk_in d 140 hd, nm_r (e' := nI e) (by rw [nI_clamp (by omega)]; exact h7) (nm_r (nI_1 0) ?_)⟩⟩)
  exact pk_le 140 1 (fun z => absurd z (by omega)) (fun _ => br_f (rk_m1 (by omega)) ⟨pk_in e 140 he, br_t (by rw [nI_clamp (by omega)]; exact h2) hp⟩)
theorem rk_ref {post : Int32 → Prop} {r : Int32} (h : r = -1 ∨ ff ≤ r) (hr : r ≤ fp) (hp : post 0) : wpX_refused post (fc, fo, fp, ff, fn, a1, a2, a3, a4, a5, a6, a7, a8, a9, a10, a11, a12, a13, a14, a15, a16, a17, a18, a19, a20, a21, a22, a23) r := by
  unfold wpX_refused
  dsimp only
  exact br_c (fun _ => br_t hr hp) (fun z => br_t (h.resolve_left z) (br_t hr hp))
/-- what value asks of its parts: a place e comes back, its isPut is i, its value v -/
theorem rk_value {post : Int32 → Prop} {k e : Nat} {r R : Int32} (hk : k < 16) (he : e < 140) (h : r = -1 ∨ ff ≤ r) (hr : r ≤ fp) (hR : ∀ q : Int32 → Prop, q R → wpX_meant q (fc, fo, fp, ff, fn, a1, a2, a3, a4, a5, a6, a7, a8, a9, a10, a11, a12, a13, a14, a15, a16, a17, a18, a19, a20, a21, a22, a23) r)
    (hC : ∀ q : Int32 → Prop, q (nI e) → wpX_changeAt q (fc, fo, fp, ff, fn, a1, a2, a3, a4, a5, a6, a7, a8, a9, a10, a11, a12, a13, a14, a15, a16, a17, a18, a19, a20, a21, a22, a23) (nI k) R) (h0 : a4 e = 0 → post (-1000000003)) (h1 : ¬ a4 e = 0 → post (a3 e)) : wpX_value post (fc, fo, fp, ff, fn, a1, a2, a3, a4, a5, a6, a7, a8, a9, a10, a11, a12, a13, a14, a15, a16, a17, a18, a19, a20, a21, a22, a23) (nI k) r := by
  unfold wpX_value
  dsimp only
  refine rk_bk hk (br_t rfl (rk_ref h hr (br_t (by decide) (hR _ (hC _ (br_f (rk_m1 (by omega)) ⟨pk_in e 140 he, ?_⟩))))))
  rw [nI_clamp (show e < 2 ^ 31 by omega)]
  exact br_c h0 (fun z => ⟨pk_in e 140 he, h1 z⟩)
theorem rk_rem0 {post : Int32 → Prop} {l : Nat} (hl : l < 6) (h : a11 l = 0) (hp : post (-1000000003)) : wpX_remaining post (fc, fo, fp, ff, fn, a1, a2, a3, a4, a5, a6, a7, a8, a9, a10, a11, a12, a13, a14, a15, a16, a17, a18, a19, a20, a21, a22, a23) (nI l) := by
  unfold wpX_remaining
  dsimp only
  refine rk_bl hl (br_t rfl ⟨pk_in l 6 hl, ?_⟩)
  rw [nI_clamp (show l < 2 ^ 31 by omega)]
  exact br_t h hp
theorem rk_rem1 {post : Int32 → Prop} {l : Nat} (hl : l < 6) (h : ¬ a11 l = 0) (hp : post (a13 l - fn)) : wpX_remaining post (fc, fo, fp, ff, fn, a1, a2, a3, a4, a5, a6, a7, a8, a9, a10, a11, a12, a13, a14, a15, a16, a17, a18, a19, a20, a21, a22, a23) (nI l) := by
  unfold wpX_remaining
  dsimp only
  refine rk_bl hl (br_t rfl ⟨pk_in l 6 hl, ?_⟩)
  rw [nI_clamp (show l < 2 ^ 31 by omega)]
  exact br_f h ⟨pk_in l 6 hl, hp⟩
end
end
section
/-! the law's checks, then the law -/
theorem rk_fin0 {post : Int32 → St0 → Prop} {mc ms kc ks : Nat} {x y z : Int32} (hp : post 1 ()) : wL_lawOf_125 post mc ms x y z y (nI 1) (nI 0) x x (y - z) (nI 1) 0 kc ks :=
  br_t rfl (br_t rfl (br_t rfl (br_t rfl (br_t rfl (br_t rfl (br_t rfl (br_t rfl (br_t rfl (br_t rfl (br_t rfl hp))))))))))
theorem rk_fin1 {post : Int32 → St0 → Prop} {mc ms kc ks : Nat} {x y z : Int32} (hp : post 1 ()) : wL_lawOf_125 post mc ms x y z y (nI 1) (nI 1) (-1000000003) x (-1000000003) (nI 2) 1 kc ks :=
  br_t rfl (br_t rfl (br_f (by decide) (br_t rfl (br_f (by decide) (br_t rfl (br_t rfl (br_f (by decide) (br_t rfl (br_f (by decide) (br_t rfl hp))))))))))
theorem rk_lawOf {post : Int32 → St0 → Prop} (x y z : Int32) (hp : post 1 ()) : wpL_lawOf post 24 1238 () x y z := by
  obtain ⟨l, hl, el⟩ := rk_l z
  obtain ⟨k, hk, ek⟩ := rk_k z
  obtain ⟨m, m1, m2, em⟩ := rk_len y
  obtain ⟨n, hn, en⟩ := rk_n y
  unfold wpL_lawOf
  refine ⟨by decide, by decide, 23, 1210, by decide, by decide, rk_init (fun a8 a9 h8 h9 => ?_)⟩
  dsimp only
  refine ⟨by decide, nm_r el (nm_r ek ⟨by decide, nm_r em (nm_r en (rk_grant hl m1 m2 rfl ?_))⟩)⟩
  dsimp only
  rw [Int32.zero_add]
  refine rk_put (c := 0) (p := 0) hk hl (by decide) (h8 k hk) (by rw [pk_us]; decide) ?_
  dsimp only
  have o9 : ∀ j, j < 16 → j ≠ k → ¬ upd a9 k (nI l) j = nI l := fun j hj e => by
    rw [pk_un e, h9 j hj]
    exact fun t => rk_m1 (show l < 2 ^ 31 by omega) t.symm
  have o11 : ¬ upd (fun _ => 0) l 1 l = 0 := by
    rw [pk_us]
    decide
  have z11 : ∀ j, j < 6 → j ≠ l → upd (fun _ => 0) l 1 j = 0 := fun j _ e => pk_un e
  refine rk_keysOf hk hl o11 pk_us o9 ?_
  by_cases c : n < m
  · refine rk_adv0 (t := 0) (m := m) hl (by omega) o11 z11 pk_us (by omega) (by decide) (by omega) ?_
    dsimp only
    rw [Nat.zero_add n]
    refine rk_value (e := 0) (R := nI 1) hk (by decide) (Or.inl rfl) (by decide) (fun q hq => br_t rfl hq) (fun q hq => rk_ch0 hk (by decide) pk_us (by decide) hq) (fun t => absurd t (by decide)) (fun _ => ?_)
    refine rk_value (e := 0) (R := nI 1) hk (by decide) (Or.inr (by decide)) (by decide) (fun q hq => br_f (by decide) hq) (fun q hq => rk_ch0 hk (by decide) pk_us (by decide) hq) (fun t => absurd t (by decide)) (fun _ => ?_)
    refine rk_rem1 hl o11 ?_
    rw [pk_us, pk_us]
    exact pk_lt n m (fun _ => rk_fin0 hp) (fun z => absurd z (by omega))
  · refine rk_adv1 (t := 0) (m := m) (d := 0) (c := 1) (p := 1) hl hk (by decide) (by decide) (by omega) o11 z11 pk_us (by omega) (by decide) (by omega) pk_us o9 pk_us (by decide) ?_
    dsimp only
    refine rk_value (e := 1) (R := nI 2) hk (by decide) (Or.inl rfl) (by decide) (fun q hq => br_t rfl hq) (fun q hq => rk_ch0 hk (by decide) pk_us (by decide) hq) (fun _ => ?_) (fun t => absurd t (by decide))
    refine rk_value (e := 0) (R := nI 1) hk (by decide) (Or.inr (by decide)) (by decide) (fun q hq => br_f (by decide) hq) (fun q hq => rk_ch1 (d := 1) hk (by decide) (by decide) pk_us (by decide) pk_us (by decide) hq) (fun t => absurd t (by decide)) (fun _ => ?_)
    refine rk_rem0 hl pk_us ?_
    rw [pk_un (show 0 ≠ 1 by decide), pk_us]
    exact pk_lt n m (fun z => absurd z (by omega)) (fun _ => rk_fin1 hp)
end
section
theorem i_vc (xs : Nat → Int32) (L : Nat) (hL : L ≤ 3) : wpL_law (fun r => r = 1) L xs := by
  unfold wpL_law
  exact rk_cell hL 0 (by decide) (fun x => rk_cell hL 1 (by decide) (fun y => rk_cell hL 2 (by decide) (fun z => ⟨24, 1238, by decide, by decide, rk_lawOf x y z rfl⟩)))
end
