section
/-- the two stores hold the same bytes -/
def i_Rel (_ : Nat) (u : SX) (v : SY) : Prop := u = v
theorem i_up {k : Nat} {u : SX} {v : SY} (h : i_Rel k u v) : i_Rel (k + 3) u v := h
theorem i_vc0 : wpX_init (fun u => wpY_init (fun v => i_Rel 0 u v)) := rfl
theorem df_m1 (n : Nat) : nI (n + 1) + (-1) = nI n := by
  have h : nI (n + 1) + (-1) = nI (n + 1) - 1 := by grind
  rw [h]; exact nI_pred n
theorem df_in {x : Int32} (h0 : ¬ x < 0) (h : x ≤ 15) : vp_in x 16 := by
  obtain ⟨j, hj, rfl⟩ := nI_of2 (M := 15) (n := 15) (by decide) h0 h
  exact vp_in_nI (by omega) (by omega)
theorem i_vc_put {k : Nat} {u : SX} {v : SY} (I : i_Rel k u v) (hk : k + 3 ≤ 1536) (v1 : Int32) (v2 : Int32) : wpX_put (fun r u' => wpY_put (fun r' v' => r' = r ∧ i_Rel (k + 3) u' v') v v1 v2) u v1 v2 := by
  cases I
  by_cases h0 : v1 < 0
  · exact br_t h0 (br_t h0 ⟨rfl, rfl⟩)
  · by_cases h : v1 ≤ 15
    · have hi : vp_in v1 16 := df_in h0 h
      exact br_f h0 (br_t h ⟨hi, fun a ea => br_f h0 (br_t h ⟨hi, fun b eb => ⟨rfl, ea.trans eb.symm⟩⟩)⟩)
    · exact br_f h0 (br_f h (br_f h0 (br_f h ⟨rfl, rfl⟩)))
theorem i_vc_at {k : Nat} {u : SX} {v : SY} (I : i_Rel k u v) (hk : k + 3 ≤ 1536) (v1 : Int32) : wpX_at (fun r => wpY_at (fun r' => r' = r ∧ i_Rel (k + 3) u v) v v1) u v1 := by
  cases I
  by_cases h0 : v1 < 0
  · exact br_t h0 (br_t h0 ⟨rfl, rfl⟩)
  · by_cases h : v1 ≤ 15
    · have hi : vp_in v1 16 := df_in h0 h
      exact br_f h0 (br_t h ⟨hi, br_f h0 (br_t h ⟨hi, ⟨rfl, rfl⟩⟩)⟩)
    · exact br_f h0 (br_f h (br_f h0 (br_f h ⟨rfl, rfl⟩)))
/-- both loops from one place (lt, i, gt) of one store: one answer and one store at the end -/
theorem df_loop (x : Int32) : ∀ d lt i gt : Nat, lt ≤ i → i + d = gt → gt ≤ 16 → ∀ a : Nat → Int32, ∃ (r : Int32) (a' : Nat → Int32), (∀ post : Int32 → SX → Prop, post r a' → wX_split_8 post x (d + 1) (nI lt) (nI i) (nI gt) a) ∧ (∀ post : Int32 → SY → Prop, post r a' → wY_split_14 post x (d + 1) (nI lt) (nI i) (nI gt) a) := by
  intro d
  induction d with
  | zero =>
    intro lt i gt hl hd hg a
    have h : nI gt ≤ nI i := nI_le (by omega) (by omega)
    exact ⟨(nI lt <<< ((8 : Int32) &&& 31)) ||| nI gt, a, fun _ hp => br_t h hp, fun _ hp => br_t h hp⟩
  | succ d ih =>
    intro lt i gt hl hd hg a
    have h : ¬ nI gt ≤ nI i := nI_ge (by omega) (by omega)
    have hi : vp_in (nI i) 16 := vp_in_nI (by omega) (by omega)
    have ht : vp_in (nI lt) 16 := vp_in_nI (by omega) (by omega)
    by_cases c1 : x ≤ a (nI i).toNatClampNeg
    · by_cases c2 : a (nI i).toNatClampNeg ≤ x
      · obtain ⟨r, a', hX, hY⟩ := ih lt (i + 1) gt (by omega) (by omega) hg a
        refine ⟨r, a', fun post hp => br_f h ⟨hi, fun w ew => ?_⟩, fun post hp => br_f h ⟨hi, fun w ew => ?_⟩⟩
        · subst ew
          refine br_t c1 (br_t c2 fun y ey => ?_)
          rw [ey, nI_1 i]; exact hX post hp
        · subst ew
          refine br_t c1 (br_t c2 fun y ey => ?_)
          rw [ey, nI_1 i]; exact hY post hp
      · obtain ⟨g, rfl⟩ : ∃ g, gt = g + 1 := ⟨gt - 1, by omega⟩
        have hgi : vp_in (nI g) 16 := vp_in_nI (by omega) (by omega)
        obtain ⟨r, a', hX, hY⟩ := ih lt i g hl (by omega) (by omega) (upd (upd a (nI i).toNatClampNeg (vp_nar .byte (a (nI g).toNatClampNeg))) (nI g).toNatClampNeg (vp_nar .byte (a (nI i).toNatClampNeg)))
        refine ⟨r, a', fun post hp => br_f h ⟨hi, fun w ew => ?_⟩, fun post hp => br_f h ⟨hi, fun w ew => ?_⟩⟩
        · subst ew
          refine br_t c1 (br_f c2 fun y ey => ?_)
          rw [nI_pred g] at ey
          subst ey
          refine ⟨hgi, hi, fun b eb => ⟨hgi, fun c ec => ?_⟩⟩
          subst eb; subst ec
          exact hX post hp
        · subst ew
          refine br_t c1 (br_f c2 fun y ey => ?_)
          rw [df_m1 g] at ey
          subst ey
          refine ⟨hgi, hi, fun b eb => ⟨hgi, fun c ec => ?_⟩⟩
          subst eb; subst ec
          exact hY post hp
    · obtain ⟨r, a', hX, hY⟩ := ih (lt + 1) (i + 1) gt (by omega) (by omega) hg (upd (upd a (nI i).toNatClampNeg (vp_nar .byte (a (nI lt).toNatClampNeg))) (nI lt).toNatClampNeg (vp_nar .byte (a (nI i).toNatClampNeg)))
      refine ⟨r, a', fun post hp => br_f h ⟨hi, fun w ew => ?_⟩, fun post hp => br_f h ⟨hi, fun w ew => ?_⟩⟩
      · subst ew
        refine br_f c1 ⟨ht, hi, fun b eb => ⟨ht, fun c ec y ey z ez => ?_⟩⟩
        rw [nI_1 i] at ey; rw [nI_1 lt] at ez
        subst eb; subst ec; subst ey; subst ez
        exact hX post hp
      · subst ew
        refine br_f c1 fun y ey => ⟨ht, hi, fun b eb z ez => ⟨ht, fun c ec => ?_⟩⟩
        rw [nI_1 i] at ey; rw [nI_1 lt] at ez
        subst eb; subst ec; subst ey; subst ez
        exact hY post hp
theorem df_16 : nI 16 = 16 := by decide +kernel
theorem i_vc_split {k : Nat} {u : SX} {v : SY} (I : i_Rel k u v) (hk : k + 3 ≤ 1536) (v1 : Int32) : wpX_split (fun r u' => wpY_split (fun r' v' => r' = r ∧ i_Rel (k + 3) u' v') v v1) u v1 := by
  cases I
  obtain ⟨r, a', hX, hY⟩ := df_loop v1 16 0 0 16 (by omega) (by omega) (by omega) u
  rw [nI_0, df_16] at hX hY
  exact ⟨17, hX _ ⟨17, hY _ ⟨rfl, rfl⟩⟩⟩
end
