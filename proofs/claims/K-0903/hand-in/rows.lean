section
/-- every node but the entry has a smaller parent -/
def dw_Up (a : Nat → Int32) : Prop := ∀ j : Nat, 0 < j → j < 8 → ∃ d : Nat, d < j ∧ a j = nI d
theorem dw_7 : nI 7 = 7 := by decide +kernel
theorem dw_mask : ∀ d : Nat, d < 8 → nI d &&& 7 = nI d := by decide +kernel
theorem dw_byte : ∀ d : Nat, d < 8 → (nI d).toInt8.toInt32.toInt8.toInt32 = nI d := by decide +kernel
theorem dw_nar {d : Nat} (h : d < 8) : vp_nar .byte (nI d).toInt8.toInt32 = nI d := by
  rw [vp_nar_byte]; exact dw_byte d h
theorem dw_Up0 : dw_Up (fun _ => 0) := fun _ h0 _ => ⟨0, h0, nI_0.symm⟩
theorem dw_UpS {a : Nat → Int32} (H : dw_Up a) {n d : Nat} (h : d < n) : dw_Up (upd a n (nI d)) := by
  intro j h0 h8
  by_cases e : j = n
  · refine ⟨d, by omega, ?_⟩
    show (if j = n then nI d else a j) = nI d
    rw [if_pos e]
  · obtain ⟨q, hq, eq⟩ := H j h0 h8
    refine ⟨q, hq, ?_⟩
    show (if j = n then nI d else a j) = nI q
    rw [if_neg e, eq]
/-- what a step up reads on the one side and on the other: one smaller node -/
theorem dw_step {a : Nat → Int32} (H : dw_Up a) {j : Nat} (h0 : 0 < j) (h8 : j < 8) : ∃ d : Nat, d < j ∧ a (nI j).toNatClampNeg = nI d ∧ (a (nI j).toNatClampNeg) &&& 7 = nI d := by
  obtain ⟨d, hd, e⟩ := H j h0 h8
  rw [nI_clamp (by omega), e]
  exact ⟨d, hd, rfl, dw_mask d (by omega)⟩
/-- the two fingers: one meeting place for both sides -/
theorem dw_meet {a : Nat → Int32} (H : dw_Up a) : ∀ s i j : Nat, i + j < s → i < 8 → j < 8 → ∃ r : Int32, (∀ post : Int32 → Prop, post r → wX_intersect_27 post a s (nI i) (nI j)) ∧ (∀ post : Int32 → Prop, post r → wY_intersect_22 post a s (nI i) (nI j)) := by
  intro s
  induction s with
  | zero => intro i j h; omega
  | succ s ih =>
    intro i j hs hi hj
    by_cases e : i = j
    · have E : nI i = nI j := congrArg nI e
      exact ⟨nI i, fun _ hp => br_t E hp, fun _ hp => br_t E hp⟩
    · have E : ¬ nI i = nI j := fun z => e ((nI_eq (by omega) (by omega)).mp z)
      by_cases l : i ≤ j
      · have L : nI i ≤ nI j := (nI_leI (by omega) (by omega)).mpr l
        have hin : vp_in (nI j) 8 := vp_in_nI hj (by omega)
        obtain ⟨d, hd, eX, eY⟩ := dw_step H (j := j) (by omega) hj
        obtain ⟨r, hX, hY⟩ := ih i d (by omega) hi (by omega)
        exact ⟨r, fun post hp => br_f E (br_t L ⟨hin, nm_r eX (hX post hp)⟩), fun post hp => br_f E (br_t L ⟨hin, nm_r eY (hY post hp)⟩)⟩
      · have L : ¬ nI i ≤ nI j := fun z => l ((nI_leI (by omega) (by omega)).mp z)
        have hin : vp_in (nI i) 8 := vp_in_nI hi (by omega)
        obtain ⟨d, hd, eX, eY⟩ := dw_step H (j := i) (by omega) hi
        obtain ⟨r, hX, hY⟩ := ih d j (by omega) (by omega) hj
        exact ⟨r, fun post hp => br_f E (br_f L ⟨hin, nm_r eX (hX post hp)⟩), fun post hp => br_f E (br_f L ⟨hin, nm_r eY (hY post hp)⟩)⟩
/-- the climb towards node i: one answer for both sides -/
theorem dw_climb {a : Nat → Int32} (H : dw_Up a) {i : Nat} (hi : i < 8) : ∀ s j : Nat, j < s → j < 8 → ∃ r : Int32, (∀ post : Int32 → Prop, post r → wX_dominates_24 post (nI i) a s (nI j)) ∧ (∀ post : Int32 → Prop, post r → wY_dominates_22 post (nI i) a s (nI j)) := by
  intro s
  induction s with
  | zero => intro j h; omega
  | succ s ih =>
    intro j hs hj
    by_cases l : j ≤ i
    · have L : nI j ≤ nI i := (nI_leI (by omega) (by omega)).mpr l
      by_cases e : j = i
      · have E : nI j = nI i := congrArg nI e
        exact ⟨1, fun _ hp => br_t L (br_t E hp), fun _ hp => br_t L (br_t E hp)⟩
      · have E : ¬ nI j = nI i := fun z => e ((nI_eq (by omega) (by omega)).mp z)
        exact ⟨0, fun _ hp => br_t L (br_f E hp), fun _ hp => br_t L (br_f E hp)⟩
    · have L : ¬ nI j ≤ nI i := fun z => l ((nI_leI (by omega) (by omega)).mp z)
      have hin : vp_in (nI j) 8 := vp_in_nI hj (by omega)
      obtain ⟨d, hd, eX, eY⟩ := dw_step H (j := j) (by omega) hj
      obtain ⟨r, hX, hY⟩ := ih d (by omega) (by omega)
      exact ⟨r, fun post hp => br_f L ⟨hin, nm_r eX (hX post hp)⟩, fun post hp => br_f L ⟨hin, nm_r eY (hY post hp)⟩⟩
/-- an int is below 0, above 7, or a node -/
theorem dw_node (x : Int32) : x < 0 ∨ (¬ x < 0 ∧ 7 < x ∧ ¬ x ≤ 7) ∨ (¬ x < 0 ∧ ¬ 7 < x ∧ x ≤ 7 ∧ ∃ j : Nat, j < 8 ∧ x = nI j) := by
  by_cases h0 : x < 0
  · exact Or.inl h0
  · by_cases h7 : x ≤ 7
    · obtain ⟨j, hj, e⟩ := nI_of2 (M := 7) (n := 7) (by decide) h0 h7
      exact Or.inr (Or.inr ⟨h0, Int32.not_lt.mpr h7, h7, j, by omega, e⟩)
    · exact Or.inr (Or.inl ⟨h0, Int32.not_le.mp h7, h7⟩)
end
section
/-- the two arrays are the same, and every node but the entry has a smaller parent -/
def i_Rel (_ : Nat) (u : SX) (v : SY) : Prop := u = v ∧ dw_Up u
theorem i_up {k : Nat} {u : SX} {v : SY} (h : i_Rel k u v) : i_Rel (k + 3) u v := h
theorem i_vc0 : wpX_init (fun u => wpY_init (fun v => i_Rel 0 u v)) := And.intro rfl dw_Up0
theorem i_vc_setIdom {k : Nat} {u : SX} {v : SY} (I : i_Rel k u v) (hk : k + 3 ≤ 1536) (v1 : Int32) (v2 : Int32) : wpX_setIdom (fun r u' => wpY_setIdom (fun r' v' => r' = r ∧ i_Rel (k + 3) u' v') v v1 v2) u v1 v2 := by
  obtain ⟨rfl, H⟩ := I
  have N : (0 : Int32) = 0 ∧ i_Rel (k + 3) u u := ⟨rfl, rfl, H⟩
  by_cases d0 : v2 < 0
  · refine br_t d0 ?_
    exact br_c (fun _ => N) fun _ => br_c (fun _ => N) fun _ => br_t d0 N
  · refine br_f d0 ?_
    by_cases nd : v1 ≤ v2
    · refine br_t nd ?_
      exact br_c (fun _ => N) fun _ => br_c (fun _ => N) fun _ => br_f d0 (br_f (Int32.not_lt.mpr nd) N)
    · refine br_f nd ?_
      by_cases n7 : 7 < v1
      · refine br_t n7 ?_
        exact br_c (fun _ => N) fun _ => br_t n7 N
      · refine br_f n7 ?_
        have dn : v2 < v1 := Int32.not_le.mp nd
        have n0 : ¬ v1 < 0 := fun z => d0 (Int32.lt_trans dn z)
        obtain ⟨d, hd, rfl⟩ := nI_of d0
        obtain ⟨n, hn, rfl⟩ := nI_of2 (M := 7) (n := 7) (by decide) n0 (Int32.not_lt.mp n7)
        have h : d < n := (nI_ltI hd (by omega)).mp dn
        have hin : vp_in (nI n) 8 := vp_in_nI (by omega) (by omega)
        have e : upd u (nI n).toNatClampNeg (vp_nar .byte (nI d).toInt8.toInt32) = upd u n (nI d) := by
          rw [nI_clamp (by omega), dw_nar (by omega)]
        exact ⟨hin, nm_r e (br_f n0 (br_f n7 (br_f d0 (br_t dn ⟨hin, nm_r e ⟨rfl, rfl, dw_UpS H h⟩⟩))))⟩
theorem i_vc_idom {k : Nat} {u : SX} {v : SY} (I : i_Rel k u v) (hk : k + 3 ≤ 1536) (v1 : Int32) : wpX_idom (fun r => wpY_idom (fun r' => r' = r ∧ i_Rel (k + 3) u v) v v1) u v1 := by
  obtain ⟨rfl, H⟩ := I
  have N : ∀ r : Int32, r = r ∧ i_Rel (k + 3) u u := fun _ => ⟨rfl, rfl, H⟩
  rcases dw_node v1 with h0 | ⟨h0, _, h7⟩ | ⟨h0, _, h7, j, hj, rfl⟩
  · exact br_t h0 (br_t h0 (N _))
  · exact br_f h0 (br_f h7 (br_f h0 (br_f h7 (N _))))
  · have hin : vp_in (nI j) 8 := vp_in_nI hj (by omega)
    exact br_f h0 (br_t h7 ⟨hin, br_f h0 (br_t h7 ⟨hin, N _⟩)⟩)
theorem i_vc_intersect {k : Nat} {u : SX} {v : SY} (I : i_Rel k u v) (hk : k + 3 ≤ 1536) (v1 : Int32) (v2 : Int32) : wpX_intersect (fun r => wpY_intersect (fun r' => r' = r ∧ i_Rel (k + 3) u v) v v1 v2) u v1 v2 := by
  obtain ⟨rfl, H⟩ := I
  have N : ∀ r : Int32, r = r ∧ i_Rel (k + 3) u u := fun _ => ⟨rfl, rfl, H⟩
  rcases dw_node v1 with h0 | ⟨h0, h7, _⟩ | ⟨h0, h7, _, i, hi, rfl⟩
  · exact br_t h0 (br_t h0 (N _))
  · exact br_f h0 (br_t h7 (br_f h0 (br_t h7 (N _))))
  · rcases dw_node v2 with g0 | ⟨g0, _, g7⟩ | ⟨g0, _, g7, j, hj, rfl⟩
    · exact br_f h0 (br_f h7 (br_t g0 (br_f h0 (br_f h7 (br_t g0 (N _))))))
    · exact br_f h0 (br_f h7 (br_f g0 (br_f g7 (br_f h0 (br_f h7 (br_f g0 (br_f g7 (N _))))))))
    · obtain ⟨r, hX, hY⟩ := dw_meet H (i + j + 1) i j (by omega) hi hj
      exact br_f h0 (br_f h7 (br_f g0 (br_t g7 ⟨_, hX _ (br_f h0 (br_f h7 (br_f g0 (br_t g7 ⟨_, hY _ (N _)⟩))))⟩)))
theorem i_vc_dominates {k : Nat} {u : SX} {v : SY} (I : i_Rel k u v) (hk : k + 3 ≤ 1536) (v1 : Int32) (v2 : Int32) : wpX_dominates (fun r => wpY_dominates (fun r' => r' = r ∧ i_Rel (k + 3) u v) v v1 v2) u v1 v2 := by
  obtain ⟨rfl, H⟩ := I
  have N : ∀ r : Int32, r = r ∧ i_Rel (k + 3) u u := fun _ => ⟨rfl, rfl, H⟩
  rcases dw_node v1 with h0 | ⟨h0, h7, _⟩ | ⟨h0, h7, _, i, hi, rfl⟩
  · exact br_t h0 (br_t h0 (N _))
  · exact br_f h0 (br_t h7 (br_f h0 (br_t h7 (N _))))
  · rcases dw_node v2 with g0 | ⟨g0, _, g7⟩ | ⟨g0, _, g7, j, hj, rfl⟩
    · exact br_f h0 (br_f h7 (br_t g0 (br_f h0 (br_f h7 (br_t g0 (N _))))))
    · exact br_f h0 (br_f h7 (br_f g0 (br_f g7 (br_f h0 (br_f h7 (br_f g0 (br_f g7 (N _))))))))
    · obtain ⟨r, hX, hY⟩ := dw_climb H hi (j + 1) j (by omega) hj
      exact br_f h0 (br_f h7 (br_f g0 (br_t g7 ⟨_, hX _ (br_f h0 (br_f h7 (br_f g0 (br_t g7 ⟨_, hY _ (N _)⟩))))⟩)))
end
