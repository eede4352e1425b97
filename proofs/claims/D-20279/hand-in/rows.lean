section
/-- the picture: v outside [lo, hi), its opposite inside -/
def ac_f (lo hi : Nat) (v : Int32) (j : Nat) : Int32 := if lo ≤ j ∧ j < hi then -v else v
theorem ac_f_in {lo hi j : Nat} {v : Int32} (h : lo ≤ j ∧ j < hi) : ac_f lo hi v j = -v := if_pos h
theorem ac_f_out {lo hi j : Nat} {v : Int32} (h : ¬ (lo ≤ j ∧ j < hi)) : ac_f lo hi v j = v := if_neg h
theorem ac_put {f s : Nat → Int32} {i k : Nat} {x : Int32} (hk : k = i) (h : ∀ j, j < i → s j = f j) (hx : x = f i) : ∀ j, j < i + 1 → upd s k x j = f j := by
  intro j hj
  rw [hk]
  by_cases e : j = i
  · rw [e, pk_us, hx]
  · rw [pk_un e]
    exact h j (by omega)
/-- one more place of the band: [lo, i) becomes [lo, i + 1) -/
theorem ac_band {s : Nat → Int32} {v : Int32} {lo i k n : Nat} (hk : k = i) (hl : lo ≤ i) (h : ∀ j, j < n → s j = ac_f lo i v j) : ∀ j, j < n → upd s k (-v) j = ac_f lo (i + 1) v j := by
  intro j hj
  rw [hk]
  by_cases e : j = i
  · rw [e, pk_us, ac_f_in ⟨hl, Nat.lt_succ_self i⟩]
  · rw [pk_un e, h j hj]
    by_cases c : lo ≤ j ∧ j < i
    · rw [ac_f_in c, ac_f_in ⟨c.1, by omega⟩]
    · rw [ac_f_out c, ac_f_out (by omega)]
/-- Arrays.fill(r, v) -/
theorem ac_fill {post : StJe8682 → Prop} {a : Nat → Int32} {n : Nat} {v : Int32} (hn : n ≤ 7) (H : ∀ s : Nat → Int32, (∀ j, j < n → s j = v) → post (s, n)) : wpJ7_fill_53178_8bd53 post (a, n) v := by
  unfold wpJ7_fill_53178_8bd53
  exact nm_e (pk_loop (fun k i s => wJ7_fill_53178_8bd53_5 post v (nI n) n k (nI i) s) (fun i s => ∀ j, j < i → s j = v) n 0 a (by omega) (fun j hj => absurd hj (by omega))
    (fun k s h => pk_le n n (fun _ => H s h) (fun z => absurd z (by omega)))
    (fun k i s hi h hw => pk_le n i (fun z => absurd z (by omega)) (fun _ => ⟨pk_in i n hi, nm_e (nm_r (nI_1 i) (hw _ (ac_put (f := fun _ => v) (nI_clamp (by omega)) h rfl)))⟩)))
/-- Arrays.rangeCheck(n, lo, hi) -/
theorem ac_range {post : Unit → Prop} {n lo hi : Nat} (hn : n ≤ 7) (h1 : lo ≤ hi) (h2 : hi ≤ n) (H : post ()) : wpJ7_rangeCheck_23922_3f900 post () (nI n) (nI lo) (nI hi) := by
  unfold wpJ7_rangeCheck_23922_3f900
  exact pk_le lo hi (fun _ => pk_le 0 lo (fun _ => pk_le hi n (fun _ => H) (fun z => absurd z (by omega))) (fun z => absurd z (by omega))) (fun z => absurd z (by omega))
/-- Arrays.fill(r, lo, hi, -v) over an array of v -/
theorem ac_fill2 {post : StJe8682 → Prop} {a : Nat → Int32} {n lo hi : Nat} {v : Int32} (hn : n ≤ 7) (h1 : lo ≤ hi) (h2 : hi ≤ n) (ha : ∀ j, j < n → a j = v) (H : ∀ s : Nat → Int32, (∀ j, j < n → s j = ac_f lo hi v j) → post (s, n)) : wpJ7_fill_fda19_6e8b0 post (a, n) (nI lo) (nI hi) (-v) := by
  unfold wpJ7_fill_fda19_6e8b0
  refine ac_range hn h1 h2 ?_
  exact pk_loop (fun k i s => wJ7_fill_fda19_6e8b0_10 post (nI hi) (-v) n k (nI i) s) (fun i s => lo ≤ i ∧ ∀ j, j < n → s j = ac_f lo i v j) hi lo a h1 ⟨Nat.le_refl lo, fun j hj => by rw [ha j hj, ac_f_out (by omega)]⟩
    (fun k s h => pk_le hi hi (fun _ => H s h.2) (fun z => absurd z (by omega)))
    (fun k i s hi' h hw => pk_le hi i (fun z => absurd z (by omega)) (fun _ => ⟨pk_in i n (by omega), nm_e (nm_r (nI_1 i) (hw _ ⟨Nat.le_succ_of_le h.1, ac_band (nI_clamp (by omega)) h.1 h.2⟩))⟩))
/-- the class -/
theorem ac_x0 {post : St1 → Prop} {mc ms n lo hi : Nat} {v : Int32} (hn : n ≤ 7) (h1 : lo ≤ hi) (h2 : hi ≤ n) (hc : 1 ≤ mc) (hs : 7 ≤ ms) (H : ∀ s : Nat → Int32, (∀ j, j < n → s j = ac_f lo hi v j) → post (s, n)) : wpX0_banded post mc ms () (nI n) (nI lo) (nI hi) v := by
  unfold wpX0_banded
  exact ⟨nI_pos (by omega), nm_r (nI_clamp (by omega)) ⟨by omega, hc, by omega, ac_fill hn (fun s h => ac_fill2 hn h1 h2 h (fun s' h' => H s' h'))⟩⟩
/-- the twin -/
theorem ac_x1 {post : St1 → Prop} {mc ms n lo hi : Nat} {v : Int32} (hn : n ≤ 7) (h2 : hi ≤ n) (h1 : lo ≤ hi) (hc : 1 ≤ mc) (hs : 7 ≤ ms) (H : ∀ s : Nat → Int32, (∀ j, j < n → s j = ac_f lo hi v j) → post (s, n)) : wpX1_banded post mc ms () (nI n) (nI lo) (nI hi) v := by
  unfold wpX1_banded
  refine ⟨nI_pos (by omega), nm_r (nI_clamp (by omega)) ⟨by omega, hc, by omega, ?_⟩⟩
  refine pk_loop (fun k i s => wX1_banded_8 post mc ms (nI n) (nI lo) (nI hi) v 1 (0 + n) n k (nI i) s) (fun i s => ∀ j, j < i → s j = ac_f lo hi v j) n 0 (fun _ => 0) (by omega) (fun j hj => absurd hj (by omega)) ?_ ?_
  · exact fun k s h => pk_le n n (fun _ => H s h) (fun z => absurd z (by omega))
  · intro k i s hi' h hw
    have ou : ¬ (lo ≤ i ∧ i < hi) → wX1_banded_26 post mc ms (wX1_banded_8 post mc ms (nI n) (nI lo) (nI hi) v 1 (0 + n) n k) (nI n) (nI lo) (nI hi) v (nI i) 1 (0 + n) s n := by
      intro c
      unfold wX1_banded_26 wX1_banded_31
      exact br_f (by decide) ⟨pk_in i n hi', nm_e (nm_r (nI_1 i) (hw _ (ac_put (f := ac_f lo hi v) (nI_clamp (by omega)) h (ac_f_out c).symm)))⟩
    have inn : (lo ≤ i ∧ i < hi) → wX1_banded_31 post mc ms (wX1_banded_8 post mc ms (nI n) (nI lo) (nI hi) v 1 (0 + n) n k) (nI n) (nI lo) (nI hi) v (nI i) 0 1 (0 + n) s n := by
      intro c
      unfold wX1_banded_31
      exact br_t rfl ⟨pk_in i n hi', nm_e (nm_r (nI_1 i) (hw _ (ac_put (f := ac_f lo hi v) (nI_clamp (by omega)) h (ac_f_in c).symm)))⟩
    exact pk_le n i (fun z => absurd z (by omega)) (fun _ => pk_lt i lo (fun z => ou (by omega)) (fun z => pk_lt i hi (fun z2 => inn ⟨z, z2⟩) (fun z2 => ou (by omega))))
/-- the law's comparison of two arrays that hold the same -/
theorem ac_eq {post : Int32 → Prop} {a b : Nat → Int32} {n : Nat} (hn : n ≤ 7) (h : ∀ j, j < n → a j = b j) (H : post 1) : wpL_eqInts post (a, n, b, n) := by
  unfold wpL_eqInts
  exact br_t rfl (pk_loop (σ := Unit) (fun k i _ => wL_eqInts_11 post a n b n k (nI i)) (fun _ _ => True) n 0 () (by omega) trivial
    (fun k _ _ => pk_le n n (fun _ => H) (fun z => absurd z (by omega)))
    (fun k i _ hi _ hw => pk_le n i (fun z => absurd z (by omega)) (fun _ => ⟨pk_in i n hi, pk_in i n hi, br_t (by rw [nI_clamp (by omega)]; exact h i hi) (nm_r (nI_1 i) (hw () trivial))⟩)))
end
section
theorem ac_44 {post : Int32 → St0 → Prop} {v : Int32} {n lo hi : Nat} (hn : n ≤ 7) (h1 : lo ≤ hi) (h2 : hi ≤ n) (H : post 1 ()) : wL_lawOf_44 post 6 96 v (nI n) (nI hi) (nI lo) 0 0 := by
  unfold wL_lawOf_44
  exact ⟨1, 7, by omega, by omega, ac_x0 hn h1 h2 (by omega) (by omega) (fun s hs => ⟨1, 7, by omega, by omega, ac_x1 hn h2 h1 (by omega) (by omega) (fun t ht => ac_eq hn (fun j hj => by rw [hs j hj, ht j hj]) ⟨narrow_b1, H⟩)⟩)⟩
theorem ac_21 {post : Int32 → St0 → Prop} {x v : Int32} {n hi : Nat} (hn : n ≤ 7) (h2 : hi ≤ n) (H : post 1 ()) : wL_lawOf_21 post 6 96 x v (nI n) (nI hi) 0 0 := by
  unfold wL_lawOf_21
  obtain ⟨m, hm, e⟩ := pk_andE ((x.toUInt32 >>> ((3 : Int32).toUInt32 &&& Int32.toUInt32 31)).toInt32) (m := 7) 3 (by decide)
  rw [e]
  exact pk_le m hi (fun z => ac_44 hn z h2 H) (fun _ => ac_44 hn (Nat.zero_le hi) h2 H)
theorem ac_of {post : Int32 → St0 → Prop} {x y v : Int32} (H : post 1 ()) : wpL_lawOf post 6 96 () x y v := by
  unfold wpL_lawOf
  obtain ⟨n, hn, e⟩ := pk_andE x (m := 7) 3 (by decide)
  obtain ⟨t, ht, e'⟩ := pk_andE y (m := 7) 3 (by decide)
  rw [e']
  exact nm_r e (pk_le t n (fun z => ac_21 (by omega) z H) (fun _ => ac_21 (by omega) (Nat.le_refl n) H))
theorem ac_cell {post : Int32 → Prop} {L k : Nat} {xs : Nat → Int32} (hL : L ≤ 3) (hk : k < 3) (H : ∀ r, post r) : wpL_cellAt post L xs () (nI k) := by
  unfold wpL_cellAt
  exact pk_le L k (fun _ => H _) (fun z => ⟨pk_in k L z, H _⟩)
theorem i_vc (xs : Nat → Int32) (L : Nat) (hL : L ≤ 3) : wpL_law (fun r => r = 1) L xs := by
  unfold wpL_law
  exact ac_cell (k := 0) hL (by omega) (fun _ => ac_cell (k := 1) hL (by omega) (fun _ => ac_cell (k := 2) hL (by omega) (fun _ => ⟨6, 96, by omega, by omega, ac_of rfl⟩)))
end
