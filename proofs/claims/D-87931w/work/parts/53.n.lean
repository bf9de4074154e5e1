/-! the exchange: what stays, answers, refusals, tables and pages by number -/
set_option maxRecDepth 100000
theorem nI1 : nI 1 = 1 := by decide +kernel
theorem n10 : ¬ nI 1 = 0 := by decide +kernel
theorem n01 : ¬ nI 0 = 1 := by decide +kernel
theorem zcs_pos {α : Type} {c : Prop} {x y : Option α} (h : c) : zcs c x y = x := by unfold zcs; exact if_pos h
theorem zcs_neg {α : Type} {c : Prop} {x y : Option α} (h : ¬ c) : zcs c x y = y := by unfold zcs; exact if_neg h
section XST
variable {h : zH}
theorem x_T (t : zXx h 1) (i : Nat) {kd : Nat × Nat} (hi : xB[i]? = some kd) : zT h (1 + i) = kd := (zCt.b t 0 rfl).t i hi
theorem x_P (t : zXx h 1) (j : Nat) {p : Nat × Nat × Nat} (hj : xP[j]? = some p) : zP h (1 + p.1) p.2.1 = some (1 + p.2.2) := (zCt.b t 0 rfl).p j hj
theorem x_ob (t : zXx h 1) (i ci : Nat) (hi : xB[i]? = some (ci + 1, 0)) : zOb ci h (1 + i) := by
  refine ⟨fun j q hq => ?_, fun j q hq => by cases hq⟩
  have hj : j = 0 := by
    have := (List.getElem?_eq_some_iff.mp hq).1
    simp at this
    exact this
  subst hj
  cases hq
  refine ⟨rfl, by show 1 + i ≠ 0; omega, fun k kd hk => ?_, fun k p hk => by cases hk⟩
  have hk0 : k = 0 := by
    have := (List.getElem?_eq_some_iff.mp hk).1
    simp at this
    exact this
  subst hk0
  cases hk
  exact ⟨(zCt.b t 0 rfl).lt i hi, (zCt.b t 0 rfl).t i hi⟩
theorem x_slot (t : zXx h 1) {p : Nat} (hp : p < 10) : zP h 3 p = some (54 + p) ∧ zOb 6 h (54 + p) := by
  have e : p = 0 ∨ p = 1 ∨ p = 2 ∨ p = 3 ∨ p = 4 ∨ p = 5 ∨ p = 6 ∨ p = 7 ∨ p = 8 ∨ p = 9 := by omega
  rcases e with rfl | rfl | rfl | rfl | rfl | rfl | rfl | rfl | rfl | rfl
  · exact ⟨x_P t 19 rfl, x_ob t 53 6 rfl⟩
  · exact ⟨x_P t 20 rfl, x_ob t 54 6 rfl⟩
  · exact ⟨x_P t 21 rfl, x_ob t 55 6 rfl⟩
  · exact ⟨x_P t 22 rfl, x_ob t 56 6 rfl⟩
  · exact ⟨x_P t 23 rfl, x_ob t 57 6 rfl⟩
  · exact ⟨x_P t 24 rfl, x_ob t 58 6 rfl⟩
  · exact ⟨x_P t 25 rfl, x_ob t 59 6 rfl⟩
  · exact ⟨x_P t 26 rfl, x_ob t 60 6 rfl⟩
  · exact ⟨x_P t 27 rfl, x_ob t 61 6 rfl⟩
  · exact ⟨x_P t 28 rfl, x_ob t 62 6 rfl⟩
end XST
section XAN
variable {h h1 : zH} {y : gY} {z : gZ} {v : Int32}
theorem XR.tell (x : XR h y z) : XR (zsI h 1 23 (zI h 1 23 + 1)) y (qF z (z.fi + 1)) := by
  refine x.upF (fr.fx ((fr.refl _ h).sI (Or.inr ⟨rfl, rfl⟩) _)) ?_
  show _ = _
  rw [eI, if_pos ⟨rfl, rfl⟩, x.fi, nI_1]
/-- an answer that is a finding -/
theorem x_ans (x : XR h1 y z) (f : fx wX h h1) (hc : zc h1 ≤ zc h + 100) (hu : zu h1 ≤ zu h + 10000) (hv : v < 0) : zw (zb2 (fX0_answer h1 1 v) (fun a b => some (a, b))) (xQ h (qT z v)) := by
  unfold fX0_answer
  rw [if_neg (by rw [neg_nn hv]; exact id)]
  refine ⟨_, rfl, rfl, ⟨y, x.tell⟩, f.trans (fr.fx ((fr.refl _ h1).sI (show wX 1 23 from ⟨by omega, by omega⟩) _)), hc, hu⟩
theorem x_ans0 (x : XR h y z) (hv : v < 0) : zw (zb2 (fX0_answer h 1 v) (fun a b => some (a, b))) (xQ h (qT z v)) := x_ans x (fx.refl _ _) (by omega) (by omega) hv
/-- a refusal is on its way -/
def xE (h h1 : zH) (v : Int32) : Prop := zI h1 2 6 = v ∧ fx (fun a _ => a = 2) h h1 ∧ zc h1 ≤ zc h + 4 ∧ zu h1 ≤ zu h + 1400
theorem xE_XR (x : XR h y z) (e : xE h h1 v) : XR h1 y z := x.scr (e.2.1.mono fun a j hw => Or.inl (Or.inr (Or.inl hw)))
theorem x_han (x : XR h y z) (e : xE h h1 v) (hv : v < 0) : zw (zck (zT h1 2 = (2, 0)) (zck (zOb 1 h1 2) (zb2 (fX0_answer h1 1 (zI h1 2 6)) (fun a b => some (a, b))))) (xQ h (qT z v)) := by
  have x1 := xE_XR x e
  rw [zw_ck, zw_ck, e.1]
  exact ⟨x_T x1.st 1 rfl, x_ob x1.st 1 1 rfl, x_ans x1 (e.2.1.mono fun a j hw => by subst hw; exact ⟨by omega, by omega⟩) (by have := e.2.2.1; omega) (by have := e.2.2.2; omega) hv⟩
theorem x_need1 (h : zH) (v : Int32) : fX0_need h 1 1 v = some (.inl none, h) := by unfold fX0_need; rw [if_neg (by decide)]
theorem x_need0 (h : zH) (v : Int32) : fX0_need h 1 0 v = some (.inr 2, zsI h 2 6 v) := by unfold fX0_need; rw [if_pos rfl]; rfl
theorem xE_need (h : zH) (v : Int32) : xE h (zsI h 2 6 v) v := ⟨by rw [eI, if_pos ⟨rfl, rfl⟩], fr.fx (fr.sI (W := fun a _ => a = 2) (fr.refl _ h) rfl _), by show zc h ≤ zc h + 4; omega, by show zu h ≤ zu h + 1400; omega⟩
/-- a need that fails -/
theorem x_need (x : XR h y z) (hv : v < 0) (k : zH → Option (Int32 × zH)) : zw (zxv (fX0_need h 1 0 v) k (fun e h1 => zck (zT h1 e = (2, 0)) (zck (zOb 1 h1 e) (zb2 (fX0_answer h1 1 (zI h1 e 6)) (fun a b => some (a, b)))))) (xQ h (qT z v)) := by
  rw [x_need0]
  exact x_han x (xE_need h v) hv
end XAN
theorem zOb_mk {h : zH} {ci a : Nat} (ha : a ≠ 0) (hn : a < zn h) (ht : zT h a = (ci + 1, 0)) : zOb ci h a := by
  refine ⟨fun j q hq => ?_, fun j q hq => by cases hq⟩
  have hj : j = 0 := by
    have := (List.getElem?_eq_some_iff.mp hq).1
    simp at this
    exact this
  subst hj
  cases hq
  refine ⟨rfl, ha, fun k kd hk => ?_, fun k p hk => by cases hk⟩
  have hk0 : k = 0 := by
    have := (List.getElem?_eq_some_iff.mp hk).1
    simp at this
    exact this
  subst hk0
  cases hk
  exact ⟨hn, ht⟩
theorem zTb_ob {h : zH} {a : Nat} (t : zTb h a) : zOb 2 h a := zOb_mk (zCt.b t 0 rfl).1 ((zCt.b t 0 rfl).lt 0 rfl) ((zCt.b t 0 rfl).t 0 rfl)
section XPG
variable {h : zH} {y : gY} {z : gZ}
theorem x_thing (x : XR h y z) (X : Int32) : (∃ p, p < z.pg.1 ∧ X = nI p ∧ vI X z.pg.1 = some p ∧ fX0_thingAt h 1 X = some (some (y.1 p), h)) ∨ ∃ h1, vI X z.pg.1 = none ∧ fX0_thingAt h 1 X = some (none, h1) ∧ fx (fun _ _ => False) h h1 ∧ zc h1 ≤ zc h + 3 ∧ zu h1 ≤ zu h + 300 := by
  have hn := x.pg.2.2.1
  rcases vI_cases X z.pg.1 (by omega) with ⟨e, hx⟩ | ⟨p, hp, rfl, e⟩
  · right
    rcases vI_cases X 10 (by omega) with ⟨e2, hx2⟩ | ⟨p, hp, rfl, e2⟩
    · refine ⟨zmke h 3 300, e, ?_, fx.mke h 3 300, Nat.le_refl _, Nat.le_refl _⟩
      unfold fX0_thingAt
      rw [zcs_neg]
      · rfl
      · unfold vp_in
        rcases hx2 with hx2 | hx2
        · exact fun q => q (Or.inl hx2)
        · intro q
          apply q
          by_cases h0 : X < 0
          · exact Or.inl h0
          · obtain ⟨j, hj, rfl⟩ := nI_of h0
            rw [nI_leI (by omega) hj] at hx2
            rw [nI_clamp hj]
            exact Or.inr hx2
    · refine ⟨h, e, ?_, fx.refl _ _, by omega, by omega⟩
      have hp2 : ¬ p < z.pg.1 := by
        rcases hx with hx | hx
        · exact absurd hx (nI_pos (by omega))
        · rw [nI_leI (by omega) (by omega)] at hx; omega
      unfold fX0_thingAt
      obtain ⟨s1, s2⟩ := x_slot x.st hp
      rw [zcs_pos (vin hp (by omega)), nI_clamp (by omega), show zP h (1 + 2) p = some (54 + p) from s1]
      show zck (zOb 6 h (54 + p)) _ = _
      rw [zck_pos s2]
      show some (zP h (54 + p) 0, h) = _
      rw [x.pg.2.2.2.1 p hp, if_neg hp2]
  · left
    refine ⟨p, hp, rfl, e, ?_⟩
    unfold fX0_thingAt
    obtain ⟨s1, s2⟩ := x_slot x.st (show p < 10 by omega)
    rw [zcs_pos (vin (show p < 10 by omega) (by omega)), nI_clamp (by omega), show zP h (1 + 2) p = some (54 + p) from s1]
    show zck (zOb 6 h (54 + p)) _ = _
    rw [zck_pos s2]
    show some (zP h (54 + p) 0, h) = _
    rw [x.pg.2.2.2.1 p (by omega), if_pos hp]
theorem xE_of {h h1 h2 : zH} {v : Int32} {nc nu : Nat} (f : fx (fun _ _ => False) h h1) (hc : zc h1 ≤ zc h + 3) (hu : zu h1 ≤ zu h + 300) (he : h2 = zsI (zmke h1 nc nu) 2 6 v) (h1c : zc h1 + nc ≤ zc h + 4) (h1u : zu h1 + nu ≤ zu h + 1400) : xE h h2 v := by
  subst he
  refine ⟨by rw [eI, if_pos ⟨rfl, rfl⟩], ?_, h1c, h1u⟩
  exact (fx.mono f (fun _ _ e => e.elim)).trans ((fx.mke h1 nc nu).trans (fr.fx (fr.sI (W := fun a _ => a = 2) (fr.refl _ _) rfl _)))
theorem x_table (x : XR h y z) (w : pgWf z.pg) (X : Int32) {c : Nat} (hc : c = 0 ∨ c = 1) : (∃ p, p < z.pg.1 ∧ X = nI p ∧ vI X z.pg.1 = some p ∧ z.pg.2 p 0 0 = 0 ∧ z.pg.2 p 1 0 = c ∧ fX0_tableAt h 1 X (nI c) = some (.inl (some (.ref (y.1 p))), h)) ∨ ∃ v h1, v < 0 ∧ fX0_tableAt h 1 X (nI c) = some (.inr 2, h1) ∧ xE h h1 v ∧ ((vI X z.pg.1 = none ∧ v = -1) ∨ ∃ p, p < z.pg.1 ∧ X = nI p ∧ vI X z.pg.1 = some p ∧ (z.pg.2 p 0 0 ≠ 0 ∧ v = -3 ∨ z.pg.2 p 0 0 = 0 ∧ z.pg.2 p 1 0 ≠ c ∧ v = if c = 0 then -4 else -5)) := by
  unfold fX0_tableAt
  rcases x_thing x X with ⟨p, hp, rfl, e, t⟩ | ⟨h1, e, t, f, k1, k2⟩
  · rw [t]
    have g := x.pg.2.2.2.2.2.2.2 p hp
    have sm := w.2 p hp
    show _ ∨ _
    by_cases h0 : z.pg.2 p 0 0 = 0
    · obtain ⟨tb, tab, -⟩ := g.1 h0
      have hcl : z.pg.2 p 1 0 = 0 ∨ z.pg.2 p 1 0 = 1 := by have := sm.2.1; omega
      have c3 : zI h (y.1 p) 3 = nI (z.pg.2 p 1 0) := tab.1
      by_cases h1 : z.pg.2 p 1 0 = c
      · left
        refine ⟨p, hp, rfl, e, h0, h1, ?_⟩
        show zcs (zTb h (y.1 p)) _ _ = _
        rw [zcs_pos tb, zck_pos tb, c3, h1]
        rcases hc with rfl | rfl
        · rw [if_pos nI_0, if_pos nI_0]; unfold fX0_tableAt_J58; rw [if_neg n01]
        · rw [if_neg n10]; unfold fX0_tableAt_J58; rw [if_pos nI1, if_neg n10]
      · right
        refine ⟨if c = 0 then -4 else -5, zsI h 2 6 (if c = 0 then -4 else -5), by rcases hc with rfl | rfl; exact neg4; exact neg5, ?_, xE_need _ _, Or.inr ⟨p, hp, rfl, e, Or.inr ⟨h0, h1, rfl⟩⟩⟩
        show zcs (zTb h (y.1 p)) _ _ = _
        rw [zcs_pos tb, zck_pos tb, c3]
        rcases hc with rfl | rfl
        · rw [show z.pg.2 p 1 0 = 1 by omega, if_pos nI_0, if_neg n10]; rfl
        · rw [show z.pg.2 p 1 0 = 0 by omega, if_neg n10]; unfold fX0_tableAt_J58; rw [if_pos nI1, if_pos nI_0]; rfl
    · right
      obtain ⟨ob, -⟩ := g.2 h0
      refine ⟨-3, zsI (zmke h 3 1300) 2 6 (-3), neg3, ?_, xE_of (fx.refl _ _) (by omega) (by omega) rfl (by omega) (by omega), Or.inr ⟨p, hp, rfl, e, Or.inl ⟨h0, rfl⟩⟩⟩
      show zcs (zTb h (y.1 p)) _ _ = _
      have hk := sm.1
      rw [zcs_neg, zck_pos]
      · rfl
      · refine ⟨7 + z.pg.2 p 0 0, by omega, ob⟩
      · intro tb
        have e1 : zT h (y.1 p) = (3, 0) := (zCt.b tb 0 rfl).t 0 rfl
        have e2 := ob.t
        rw [e1] at e2
        have := (Prod.mk.inj e2).1
        omega
  · rw [t]
    right
    exact ⟨-1, zsI (zmke h1 1 8) 2 6 (-1), neg1, rfl, xE_of f k1 k2 rfl (by omega) (by omega), Or.inl ⟨e, rfl⟩⟩
theorem x_fixed (x : XR h y z) (w : pgWf z.pg) (X : Int32) : (∃ v h1, v < 0 ∧ fX0_tableAt h 1 X 0 = some (.inr 2, h1) ∧ xE h h1 v ∧ ∀ k, sp_fix z X k = qT z v) ∨ ∃ p, p < z.pg.1 ∧ X = nI p ∧ z.pg.2 p 0 0 = 0 ∧ z.pg.2 p 1 0 = 0 ∧ fX0_tableAt h 1 X 0 = some (.inl (some (.ref (y.1 p))), h) ∧ ∀ k, sp_fix z X k = k p := by
  rcases x_table x w X (Or.inl rfl) with ⟨p, hp, rfl, e, k0, k1, t⟩ | ⟨v, h1, hv, t, xe, d⟩
  · exact Or.inr ⟨p, hp, rfl, k0, k1, t, fun k => by unfold sp_fix; rw [e]; simp only [k0, k1, if_true]⟩
  · refine Or.inl ⟨v, h1, hv, t, xe, fun k => ?_⟩
    unfold sp_fix
    rcases d with ⟨e, rfl⟩ | ⟨p, hp, rfl, e, ⟨k0, rfl⟩ | ⟨k0, k1, rfl⟩⟩
    · rw [e]
    · rw [e]; simp only [k0, if_false]
    · rw [e]; simp only [k0, k1, if_true, if_false]
/-- a page by its number -/
theorem x_page (x : XR h y z) (w : pgWf z.pg) (X : Int32) : (∃ p, p < z.pg.1 ∧ X = nI p ∧ vI X z.pg.1 = some p ∧ fX0_pageAt h 1 X = some (.inl (some (.ref (y.1 p))), h)) ∨ ∃ h1, vI X z.pg.1 = none ∧ fX0_pageAt h 1 X = some (.inr 2, h1) ∧ xE h h1 (-1) := by
  unfold fX0_pageAt
  rcases x_thing x X with ⟨p, hp, rfl, e, t⟩ | ⟨h1, e, t, f, k1, k2⟩
  · left
    refine ⟨p, hp, rfl, e, ?_⟩
    rw [t]
    show zck (zPg h (y.1 p)) _ = _
    rw [zck_pos]
    have g := x.pg.2.2.2.2.2.2.2 p hp
    by_cases h0 : z.pg.2 p 0 0 = 0
    · refine ⟨2, by simp, ?_⟩
      exact zTb_ob (g.1 h0).1
    · obtain ⟨ob, -⟩ := g.2 h0
      have := (w.2 p hp).1
      refine ⟨7 + z.pg.2 p 0 0, ?_, ob⟩
      have : z.pg.2 p 0 0 = 1 ∨ z.pg.2 p 0 0 = 2 ∨ z.pg.2 p 0 0 = 3 := by omega
      rcases this with e | e | e <;> rw [e] <;> simp
  · right
    refine ⟨zsI h1 2 6 (-1), e, by rw [t]; rfl, by rw [eI, if_pos ⟨rfl, rfl⟩], ?_, by show zc h1 ≤ _; omega, by show zu h1 ≤ _; omega⟩
    exact (fx.mono f (fun _ _ e => e.elim)).trans (fr.fx (fr.sI (W := fun a _ => a = 2) (fr.refl _ _) rfl _))
theorem x_isClosed (x : XR h y z) (w : pgWf z.pg) {p : Nat} (hp : p < z.pg.1) : fV_Page_isClosed h (y.1 p) = some (nI (z.pg.2 p 1 0)) := by
  have g := x.pg.2.2.2.2.2.2.2 p hp
  have sm := w.2 p hp
  unfold fV_Page_isClosed
  by_cases h0 : z.pg.2 p 0 0 = 0
  · obtain ⟨tb, tab, -⟩ := g.1 h0
    rw [if_pos (show zT h (y.1 p) = (3, 0) from (zCt.b tb 0 rfl).t 0 rfl), zck_pos tb]
    unfold fX3_isClosed
    rw [tab.1, zck_pos (of_eq_true (zBn sm.2.1))]
  · obtain ⟨ob, k1, -⟩ := g.2 h0
    have t := ob.t
    have : z.pg.2 p 0 0 = 1 ∨ z.pg.2 p 0 0 = 2 ∨ z.pg.2 p 0 0 = 3 := by have := sm.1; omega
    rw [k1]
    rcases this with e | e | e <;> rw [e] at t ob
    · rw [t, if_neg (by decide), if_pos rfl, zck_pos ob]; rfl
    · rw [t, if_neg (by decide), if_neg (by decide), if_pos rfl, zck_pos ob]; rfl
    · rw [t, if_neg (by decide), if_neg (by decide), if_neg (by decide), if_pos rfl, zck_pos ob]; rfl
noncomputable def sp_cl (z : gZ) (x : Int32) (k : Nat → Int32 × gZ) : Int32 × gZ := match vI x z.pg.1 with
  | none => qT z (-1)
  | some p => if z.pg.2 p 1 0 = 0 then qT z (-5) else k p
theorem x_closed (x : XR h y z) (w : pgWf z.pg) (X : Int32) : (∃ v h1, v < 0 ∧ fX0_closedAt h 1 X = some (.inr 2, h1) ∧ xE h h1 v ∧ ∀ k, sp_cl z X k = qT z v) ∨ ∃ p, p < z.pg.1 ∧ X = nI p ∧ z.pg.2 p 1 0 = 1 ∧ fX0_closedAt h 1 X = some (.inl (some (.ref (y.1 p))), h) ∧ ∀ k, sp_cl z X k = k p := by
  unfold fX0_closedAt sp_cl
  rcases x_page x w X with ⟨p, hp, rfl, e, t⟩ | ⟨h1, e, t, xe⟩
  · rw [t, e]
    have hc := (w.2 p hp).2.1
    have ic := x_isClosed x w hp
    by_cases h1 : z.pg.2 p 1 0 = 0
    · left
      refine ⟨-5, zsI h 2 6 (-5), neg5, ?_, xE_need _ _, fun k => by simp only [h1, if_true]⟩
      show zb1 (fV_Page_isClosed h (y.1 p)) _ = _
      rw [ic, h1]
      rfl
    · right
      have h1' : z.pg.2 p 1 0 = 1 := by omega
      refine ⟨p, hp, rfl, h1', ?_, fun k => by simp only [h1, if_false]⟩
      show zb1 (fV_Page_isClosed h (y.1 p)) _ = _
      rw [ic, h1']
      unfold zb1
      dsimp only
      rw [if_neg n10]
  · rw [t, e]
    exact Or.inl ⟨-1, h1, neg1, rfl, xe, fun k => rfl⟩
end XPG
