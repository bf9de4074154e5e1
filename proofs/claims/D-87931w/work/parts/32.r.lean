theorem i_table {h : zH} {a : Nat} (ha : a ≠ 0) (hn : zn h = a + 1) (hT : zT h a = (3, 0)) (hP : ∀ j, zP h a j = none) (hz : zZr h a) : zw (fX3_init h a) (fun h' => zTn h h' a) := by
  unfold fX3_init fX2_init_2
  rw [zw_b1, zw_some]
  refine zw_af (by omega) (hP 5) ?_
  refine zw_af (by simp only [af_n, mf_n, hn]; omega) (by simp [af_P, mf_P, af_n, mf_n, hn, hP, Nat.add_assoc]) ?_
  refine zw_af (by simp only [af_n, mf_n, hn]; omega) (by simp [af_P, mf_P, af_n, mf_n, hn, hP, Nat.add_assoc]) ?_
  refine zw_af (by simp only [af_n, mf_n, hn]; omega) (by simp [af_P, mf_P, af_n, mf_n, hn, hP, Nat.add_assoc]) ?_
  refine zw_af (by simp only [af_n, mf_n, hn]; omega) (by simp [af_P, mf_P, af_n, mf_n, hn, hP, Nat.add_assoc]) ?_
  refine zw_af (by simp only [af_n, mf_n, hn]; omega) (by simp [af_P, mf_P, af_n, mf_n, hn, hP, Nat.add_assoc]) ?_
  refine zw_af (by simp only [af_n, mf_n, hn]; omega) (by simp [af_P, mf_P, af_n, mf_n, hn, hP, Nat.add_assoc]) ?_
  refine zw_af (by simp only [af_n, mf_n, hn]; omega) (by simp [af_P, mf_P, af_n, mf_n, hn, hP, Nat.add_assoc]) ?_
  refine zw_af (by simp only [af_n, mf_n, hn]; omega) (by simp [af_P, mf_P, af_n, mf_n, hn, hP, Nat.add_assoc]) ?_
  refine zw_mf (by simp only [af_n, mf_n, hn]; omega) (by simp [af_P, mf_P, af_n, mf_n, hn, hP, Nat.add_assoc]) ?_
  refine zw_af (by simp only [af_n, mf_n, hn]; omega) (by simp [af_P, mf_P, af_n, mf_n, hn, hP, Nat.add_assoc]) ?_
  refine zw_af (by simp only [af_n, mf_n, hn]; omega) (by simp [af_P, mf_P, af_n, mf_n, hn, hP, Nat.add_assoc]) ?_
  refine zw_af (by simp only [af_n, mf_n, hn]; omega) (by simp [af_P, mf_P, af_n, mf_n, hn, hP, Nat.add_assoc]) ?_
  refine zw_af (by simp only [af_n, mf_n, hn]; omega) (by simp [af_P, mf_P, af_n, mf_n, hn, hP, Nat.add_assoc]) ?_
  refine zw_af (by simp only [af_n, mf_n, hn]; omega) (by simp [af_P, mf_P, af_n, mf_n, hn, hP, Nat.add_assoc]) ?_
  refine zw_af (by simp only [af_n, mf_n, hn]; omega) (by simp [af_P, mf_P, af_n, mf_n, hn, hP, Nat.add_assoc]) ?_
  refine zw_af (by simp only [af_n, mf_n, hn]; omega) (by simp [af_P, mf_P, af_n, mf_n, hn, hP, Nat.add_assoc]) ?_
  rw [zw_some]
  refine ⟨by simp only [af_n, mf_n, hn], by simp only [af_c, mf_c], by simp only [af_u, mf_u], ⟨fun j q hq => ?_, fun j q hq => by cases hq⟩, ?_, ?_⟩
  · have hj : j = 0 := by
      have := (List.getElem?_eq_some_iff.mp hq).1
      simp at this
      exact this
    subst hj
    cases hq
    refine ⟨(show zBok tB tP = true by decide), ha, fun i kd hi => ?_, fun i p hi => ?_⟩
    · have hlt : i < 22 := (List.getElem?_eq_some_iff.mp hi).1
      refine ⟨by simp only [af_n, mf_n, hn]; omega, ?_⟩
      match i, hi with
      | 0, hi => cases hi; simp [af_T, mf_T, af_n, mf_n, hn, hT, Nat.add_assoc]
      | 1, hi => cases hi; simp [af_T, mf_T, af_n, mf_n, hn, hT, Nat.add_assoc]
      | 2, hi => cases hi; simp [af_T, mf_T, af_n, mf_n, hn, hT, Nat.add_assoc]
      | 3, hi => cases hi; simp [af_T, mf_T, af_n, mf_n, hn, hT, Nat.add_assoc]
      | 4, hi => cases hi; simp [af_T, mf_T, af_n, mf_n, hn, hT, Nat.add_assoc]
      | 5, hi => cases hi; simp [af_T, mf_T, af_n, mf_n, hn, hT, Nat.add_assoc]
      | 6, hi => cases hi; simp [af_T, mf_T, af_n, mf_n, hn, hT, Nat.add_assoc]
      | 7, hi => cases hi; simp [af_T, mf_T, af_n, mf_n, hn, hT, Nat.add_assoc]
      | 8, hi => cases hi; simp [af_T, mf_T, af_n, mf_n, hn, hT, Nat.add_assoc]
      | 9, hi => cases hi; simp [af_T, mf_T, af_n, mf_n, hn, hT, Nat.add_assoc]
      | 10, hi => cases hi; simp [af_T, mf_T, af_n, mf_n, hn, hT, Nat.add_assoc]
      | 11, hi => cases hi; simp [af_T, mf_T, af_n, mf_n, hn, hT, Nat.add_assoc]
      | 12, hi => cases hi; simp [af_T, mf_T, af_n, mf_n, hn, hT, Nat.add_assoc]
      | 13, hi => cases hi; simp [af_T, mf_T, af_n, mf_n, hn, hT, Nat.add_assoc]
      | 14, hi => cases hi; simp [af_T, mf_T, af_n, mf_n, hn, hT, Nat.add_assoc]
      | 15, hi => cases hi; simp [af_T, mf_T, af_n, mf_n, hn, hT, Nat.add_assoc]
      | 16, hi => cases hi; simp [af_T, mf_T, af_n, mf_n, hn, hT, Nat.add_assoc]
      | 17, hi => cases hi; simp [af_T, mf_T, af_n, mf_n, hn, hT, Nat.add_assoc]
      | 18, hi => cases hi; simp [af_T, mf_T, af_n, mf_n, hn, hT, Nat.add_assoc]
      | 19, hi => cases hi; simp [af_T, mf_T, af_n, mf_n, hn, hT, Nat.add_assoc]
      | 20, hi => cases hi; simp [af_T, mf_T, af_n, mf_n, hn, hT, Nat.add_assoc]
      | 21, hi => cases hi; simp [af_T, mf_T, af_n, mf_n, hn, hT, Nat.add_assoc]
      | n + 22, _ => omega
    · match i, hi with
      | 0, hi => cases hi; simp [af_P, mf_P, af_n, mf_n, hn, hP, Nat.add_assoc]
      | 1, hi => cases hi; simp [af_P, mf_P, af_n, mf_n, hn, hP, Nat.add_assoc]
      | 2, hi => cases hi; simp [af_P, mf_P, af_n, mf_n, hn, hP, Nat.add_assoc]
      | 3, hi => cases hi; simp [af_P, mf_P, af_n, mf_n, hn, hP, Nat.add_assoc]
      | 4, hi => cases hi; simp [af_P, mf_P, af_n, mf_n, hn, hP, Nat.add_assoc]
      | 5, hi => cases hi; simp [af_P, mf_P, af_n, mf_n, hn, hP, Nat.add_assoc]
      | 6, hi => cases hi; simp [af_P, mf_P, af_n, mf_n, hn, hP, Nat.add_assoc]
      | 7, hi => cases hi; simp [af_P, mf_P, af_n, mf_n, hn, hP, Nat.add_assoc]
      | 8, hi => cases hi; simp [af_P, mf_P, af_n, mf_n, hn, hP, Nat.add_assoc]
      | 9, hi => cases hi; simp [af_P, mf_P, af_n, mf_n, hn, hP, Nat.add_assoc]
      | 10, hi => cases hi; simp [af_P, mf_P, af_n, mf_n, hn, hP, Nat.add_assoc]
      | 11, hi => cases hi; simp [af_P, mf_P, af_n, mf_n, hn, hP, Nat.add_assoc]
      | 12, hi => cases hi; simp [af_P, mf_P, af_n, mf_n, hn, hP, Nat.add_assoc]
      | 13, hi => cases hi; simp [af_P, mf_P, af_n, mf_n, hn, hP, Nat.add_assoc]
      | 14, hi => cases hi; simp [af_P, mf_P, af_n, mf_n, hn, hP, Nat.add_assoc]
      | 15, hi => cases hi; simp [af_P, mf_P, af_n, mf_n, hn, hP, Nat.add_assoc]
      | 16, hi => cases hi; simp [af_P, mf_P, af_n, mf_n, hn, hP, Nat.add_assoc]
      | 17, hi => cases hi; simp [af_P, mf_P, af_n, mf_n, hn, hP, Nat.add_assoc]
      | 18, hi => cases hi; simp [af_P, mf_P, af_n, mf_n, hn, hP, Nat.add_assoc]
      | 19, hi => cases hi; simp [af_P, mf_P, af_n, mf_n, hn, hP, Nat.add_assoc]
      | 20, hi => cases hi; simp [af_P, mf_P, af_n, mf_n, hn, hP, Nat.add_assoc]
      | n + 21, hi =>
        have hlt : n + 21 < 21 := (List.getElem?_eq_some_iff.mp hi).1
        omega
  · refine zBl_tr ?_ (zBl_af (Nat.le_refl _) (by simp only [af_n, mf_n, hn]; omega))
    refine zBl_tr ?_ (zBl_af (Nat.le_refl _) (by simp only [af_n, mf_n, hn]; omega))
    refine zBl_tr ?_ (zBl_af (Nat.le_refl _) (by simp only [af_n, mf_n, hn]; omega))
    refine zBl_tr ?_ (zBl_af (Nat.le_refl _) (by simp only [af_n, mf_n, hn]; omega))
    refine zBl_tr ?_ (zBl_af (Nat.le_refl _) (by simp only [af_n, mf_n, hn]; omega))
    refine zBl_tr ?_ (zBl_af (Nat.le_refl _) (by simp only [af_n, mf_n, hn]; omega))
    refine zBl_tr ?_ (zBl_af (Nat.le_refl _) (by simp only [af_n, mf_n, hn]; omega))
    refine zBl_tr ?_ (zBl_mf (Nat.le_refl _) (by simp only [af_n, mf_n, hn]; omega))
    refine zBl_tr ?_ (zBl_af (Nat.le_refl _) (by simp only [af_n, mf_n, hn]; omega))
    refine zBl_tr ?_ (zBl_af (Nat.le_refl _) (by simp only [af_n, mf_n, hn]; omega))
    refine zBl_tr ?_ (zBl_af (Nat.le_refl _) (by simp only [af_n, mf_n, hn]; omega))
    refine zBl_tr ?_ (zBl_af (Nat.le_refl _) (by simp only [af_n, mf_n, hn]; omega))
    refine zBl_tr ?_ (zBl_af (Nat.le_refl _) (by simp only [af_n, mf_n, hn]; omega))
    refine zBl_tr ?_ (zBl_af (Nat.le_refl _) (by simp only [af_n, mf_n, hn]; omega))
    refine zBl_tr ?_ (zBl_af (Nat.le_refl _) (by simp only [af_n, mf_n, hn]; omega))
    refine zBl_tr ?_ (zBl_af (Nat.le_refl _) (by simp only [af_n, mf_n, hn]; omega))
    refine zBl_tr ?_ (zBl_af (Nat.le_refl _) (by simp only [af_n, mf_n, hn]; omega))
    exact zBl_rf _ _
  · exact zZr_af (zZr_af (zZr_af (zZr_af (zZr_af (zZr_af (zZr_af (zZr_mf (zZr_af (zZr_af (zZr_af (zZr_af (zZr_af (zZr_af (zZr_af (zZr_af (zZr_af (hz)))))))))))))))))
