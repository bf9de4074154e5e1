/-! the exchange's code, the call -/
set_option maxRecDepth 100000
def xQL (h : zH) (s : Int64 × gZ) (r : Int64 × zH) : Prop := r.1 = s.1 ∧ (∃ y, XR r.2 y s.2) ∧ fx wX h r.2 ∧ zc r.2 ≤ zc h + 100 ∧ zu r.2 ≤ zu h + 10000
/-- closed tables have no point with two preferred entries -/
def cqWf (z : gZ) : Prop := ∀ p, p < z.pg.1 → z.pg.2 p 1 0 = 1 → z.pg.2 p 0 0 = 0 → gPq (z.pg.2 p)
theorem sp_code_no {z : gZ} {X Y v : Int32} (hv : v < 0) (ek : ∀ k, sp_cl z X k = qT z v) : sp_code z X Y = (v.toInt64, qF z (z.fi + 1)) := by
  unfold sp_cl at ek
  unfold sp_code
  cases e : vI X z.pg.1 with
  | none =>
    rw [e] at ek
    have := congrArg Prod.fst (ek fun _ => qT z v)
    have ev : (-1 : Int32) = v := this
    rw [← ev]
  | some p =>
    rw [e] at ek
    dsimp only at ek ⊢
    by_cases c : z.pg.2 p 1 0 = 0
    · have := ek fun _ => qT z v
      rw [if_pos c] at this
      have ev : (-5 : Int32) = v := congrArg Prod.fst this
      rw [if_pos c, ← ev]
    · have := ek fun _ => (0, z)
      rw [if_neg c] at this
      have ev : (0 : Int32) = v := congrArg Prod.fst this
      rw [← ev] at hv
      exact absurd hv (by decide)
section XCO
variable {h h1 : zH} {y : gY} {z : gZ} {v : Int32}
theorem x_hanL (x : XR h y z) (e : xE h h1 v) (hv : v < 0) : zw (zck (zT h1 2 = (2, 0)) (zck (zOb 1 h1 2) (zb2 (fX0_answer h1 1 (zI h1 2 6)) (fun a b => some (a.toInt64, b))))) (xQL h (v.toInt64, qF z (z.fi + 1))) := by
  have := x_han x e hv
  rw [zw_ck, zw_ck, zw_b2] at this ⊢
  refine ⟨this.1, this.2.1, this.2.2.mono fun q hq => ?_⟩
  rw [zw_some] at hq ⊢
  exact ⟨congrArg Int32.toInt64 hq.1, hq.2⟩
theorem x_code {X Y : Int32} (x : XR h y z) (w : pgWf z.pg) (wq : cqWf z) : zw (fX0_code h 1 X Y) (xQL h (sp_code z X Y)) := by
  unfold fX0_code
  rcases x_closed x w X with ⟨v, h1, hv, t, xe, ek⟩ | ⟨p, hp, rfl, k1, t, ek⟩
  · rw [t, sp_code_no hv ek, zxr_e]
    exact x_hanL x xe hv
  rw [t, zxr_r, zb1_s]
  have ev : vI (nI p) z.pg.1 = some p := by
    rcases vI_cases (nI p) z.pg.1 (by have := w.1; omega) with ⟨-, hx⟩ | ⟨k, hk, e, e2⟩
    · have := w.1
      rcases hx with hx | hx
      · exact absurd hx (nI_pos (by omega))
      · rw [nI_leI (by omega) (by omega)] at hx; omega
    · have := w.1
      rw [nI_eq (by omega) (by omega)] at e
      rw [e2, e]
  unfold sp_code
  rw [ev]
  dsimp only
  rw [if_neg (show ¬ z.pg.2 p 1 0 = 0 by omega)]
  rcases pt_cases Y with ⟨e, -, e1⟩ | ⟨pt, hpt, rfl, e, -, e1⟩
  · rw [e, e1, zb1_s, x_need0]
    exact x_hanL x (xE_need h (-1)) neg1
  rw [e, e1, zb1_s, x_need1, zxv_n, x_pcode (x.pg.2.2.2.2.2.2.2 p hp) (w.2 p hp) k1 (wq p hp k1) hpt.1, zb1_s]
  dsimp only
  have neg0 : (lN 0 : Int64) = 0 := rfl
  cases hc : gCd (z.pg.2 p) pt with
  | none =>
    rw [if_pos (by rw [lg_cmp_lt]; show (-1 : Int64) < 0; decide), x_need0]
    exact x_hanL x (xE_need h (-2)) neg2
  | some q =>
    have wf := gCd_wf (w.2 p hp) hpt.1 hc
    have nn : ¬ lg_cmp (cdL (some q)) 0 < 0 := by
      rw [lg_cmp_lt, Int64.lt_iff_toInt_lt]
      show ¬ (lN (q.2.1 * 2 ^ 32 + q.2.2)).toInt < 0
      rw [pk_lT (by omega)]
      omega
    rw [if_neg nn, x_need1, zxv_n, zw_some]
    exact ⟨rfl, ⟨y, x⟩, fx.refl _ _, by show zc h ≤ _; omega, by show zu h ≤ _; omega⟩
end XCO
