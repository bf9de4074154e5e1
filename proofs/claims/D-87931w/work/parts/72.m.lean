/-! the exchange's readers: read -/
set_option maxRecDepth 100000
/-- a page that may be read -/
def pgR (g : gP) : Prop := gSm g ∧ g 1 0 = 1 ∧ (g 0 0 = 0 → gPf g)
theorem x_match {h : zH} {b r st pd : Nat} {g : gP} {l : List Nat} (m : rAt h r 0 l) (pg : xPg h b g) (pr : pgR g) (hl : 1 ≤ l.length) (hl4 : l.length ≤ 4) (hst : st < 4) (hpd : pd ≤ 4) (hrb : r ≠ b) : zw (fV_Page_match h b (nI st) (nI pd) r (nI l.length)) (xkQ h b g (gLk g st pd l)) := by
  obtain ⟨sm, cl, pf⟩ := pr
  by_cases k0 : g 0 0 = 0
  · obtain ⟨tb, tab, xc⟩ := pg.1 k0
    unfold fV_Page_match
    rw [if_pos (show zT h b = (3, 0) from (zCt.b tb 0 rfl).t 0 rfl), zck_pos tb]
    exact x_matchTab m tb tab (xc cl).2.1 sm (pf k0) k0 hl hl4 hst hpd
  · obtain ⟨ob, -⟩ := pg.2 k0
    exact x_matchForm m ⟨by omega, sm.1⟩ ob hl hl4 hrb _ _
theorem xPg_pg {h : zH} {b : Nat} {g : gP} (pg : xPg h b g) (sm : gSm g) : zPg h b := by
  by_cases k0 : g 0 0 = 0
  · exact ⟨2, by simp, zTb_ob (pg.1 k0).1⟩
  · obtain ⟨ob, -⟩ := pg.2 k0
    have := sm.1
    have e : g 0 0 = 1 ∨ g 0 0 = 2 ∨ g 0 0 = 3 := by omega
    exact ⟨7 + g 0 0, by rcases e with e | e | e <;> rw [e] <;> simp, ob⟩
def wRr (a b c j : Nat) : Prop := c = a ∧ (6 ≤ j ∧ j ≤ 8 ∨ j = 13) ∨ c = a + 2 ∨ c = b ∧ j ≤ 2
def wRa (V : Nat → Nat → Prop) (a b c j : Nat) : Prop := V c j ∨ wRr a b c j
def wRx (V : Nat → Nat → Prop) (a b c j : Nat) : Prop := wRa V a b c j ∨ c = 1 ∧ j = 19 ∨ c = 2 ∨ c = a ∧ j = 10
/-- what a refusal leaves -/
def xRef (h : zH) (a fed st : Nat) (rest : List Nat) : Prop := zI h 1 19 = nI (fed - rest.length) ∧ zI h 2 6 = -9 ∧ zI h a 10 = 2 ∧ zI h a 8 = 0 ∧ zI h a 7 = 4 ∧ zI h a 6 = nI st
section XRD
variable {sk N a b : Nat} {V D : Nat → Nat → Prop} {K : zH → List Nat → Prop} {g : gP}
theorem x_rd1 {h : zH} {o l : List Nat} {rule s p f sg fed : Nat} {x1 : Int32} (S : Snk sk N V D K) (ha : 36 ≤ a ∧ a + 2 ≤ 91) (hb : 139 ≤ b ∨ b = 4) (hD : ∀ c j, D c j → (c = a → j = 4 ∨ j = 5) ∧ c ≠ a + 2) (hrd : ∀ h, zXx h 1 → zRd h a 1) (pr : pgR g) (st : zXx h 1) (pg : xPg h b g) (hbn : b + sz g ≤ zn h) (R : xRd h a b sk rule s p l f) (hK : K h o) (hl : l ≠ []) (hl4 : l.length ≤ 4) (hB : isB l) (hs : s < 4) (hp : p ≤ 4) (ho : o.length + 1 < N) (hr : rule ≤ 3) (hsg : zI h 28 0 = nI sg) (hsg2 : sg ≤ 1114111) (hfed : zI h a 9 = nI fed) (hf2 : l.length ≤ fed) :
    zw (fX5_read_L0 h a 1 x1) (fun r => ((gLk g s p l).1 = 1 ∧ x1 = 0 → ∃ h', r = .inr (.inl none, h') ∧ xRd h' a b sk rule s p l f ∧ K h' o ∧ fr (wRa V a b) h h') ∧ (¬ ((gLk g s p l).1 = 1 ∧ x1 = 0) → (gLk g s p l).1 ≤ 1 ∧ rule = 0 → ∃ h', r = .inr (.inr 2, h') ∧ xRef h' a fed s l ∧ K h' o ∧ fr (wRx V a b) h h') ∧ (¬ ((gLk g s p l).1 = 1 ∧ x1 = 0) → ¬ ((gLk g s p l).1 ≤ 1 ∧ rule = 0) → ∃ h', r = .inl h' ∧ xRd h' a b sk rule (gR1 g rule sg s p l).2.2.1 (gR1 g rule sg s p l).2.2.2.1 (l.drop (gR1 g rule sg s p l).1) (f + (gR1 g rule sg s p l).2.2.2.2) ∧ K h' (o ++ (gR1 g rule sg s p l).2.1) ∧ fr (wRa V a b) h h')) := by
  have hlen : 0 < l.length := List.length_pos_iff.mpr hl
  have sm := pr.1
  have szb := sz_le g
  have hVD := S.2.2.1
  have hD9 := S.2.2.2
  obtain ⟨r1, r2, r3, r4, r5, r6, r7, r8⟩ := R
  have rd := hrd h st
  obtain ⟨t1, t2, t3, t4, t5⟩ := zRd.T rd
  have rat : rAt h (a + 2) 0 l := ⟨by rw [t4], by rw [t4]; show 0 + l.length ≤ 4; omega, by rw [t4]; show 4 < 2 ^ 30; omega, fun i hi => by rw [Nat.zero_add]; exact r7 i hi, hB⟩
  -- whatever changes only what a reader may, keeps the rest
  have keep : ∀ h1, fr (wRa V a b) h h1 → zXx h1 1 ∧ xPg h1 b g ∧ zPg h1 b ∧ zI h1 28 0 = nI sg ∧ zI h1 a 9 = nI fed ∧ zI h1 a 3 = nI rule ∧ zP h1 a 1 = some sk ∧ zP h1 a 2 = some b := fun h1 f1 => by
    have nw : ∀ c j, V c j → 36 ≤ c ∧ c ≤ 91 ∧ (c = a → j = 4 ∨ j = 5) ∧ c ≠ a + 2 := fun c j hv => ⟨(hD9 c j (hVD c j hv)).1, (hD9 c j (hVD c j hv)).2, (hD c j (hVD c j hv)).1, (hD c j (hVD c j hv)).2⟩
    have pg1 : xPg h1 b g := xPg_fx f1.fx hbn (fun i j hi hw => by
      rcases hw with hw | hw
      · have := nw _ _ hw; omega
      · unfold wRr at hw; omega) pg
    refine ⟨zCt.ext st f1.lx, pg1, xPg_pg pg1 sm, ?_, ?_, ?_, ?_, ?_⟩
    · rw [f1.I]; exact hsg
      intro hw; rcases hw with hw | hw
      · have := nw _ _ hw; omega
      · unfold wRr at hw; omega
    · rw [f1.I]; exact hfed
      intro hw; rcases hw with hw | hw
      · have := nw _ _ hw; omega
      · unfold wRr at hw; omega
    · rw [f1.I]; exact r3
      intro hw; rcases hw with hw | hw
      · have := nw _ _ hw; omega
      · unfold wRr at hw; omega
    · rw [f1.P]; exact r1
      intro hw; rcases hw with hw | hw
      · have := nw _ _ hw; omega
      · unfold wRr at hw; omega
    · rw [f1.P]; exact r2
      intro hw; rcases hw with hw | hw
      · have := nw _ _ hw; omega
      · unfold wRr at hw; omega
  have keepK : ∀ h1 h2 o', fr (wRr a b) h1 h2 → K h1 o' → K h2 o' := fun h1 h2 o' f12 k => S.2.1 h1 h2 o' _ f12 (fun c j hd hw => by
    have d1 := hD c j hd
    have d2 := hD9 c j hd
    unfold wRr at hw; omega) k
  have keepV : ∀ h1 h2, fr V h1 h2 → (∀ j, j ≠ 4 → j ≠ 5 → zI h2 a j = zI h1 a j) ∧ (∀ j, zI h2 (a + 2) j = zI h1 (a + 2) j) ∧ ∀ j, zI h2 b j = zI h1 b j := fun h1 h2 f12 => by
    refine ⟨fun j h4 h5 => f12.I fun hw => ?_, fun j => f12.I fun hw => ?_, fun j => f12.I fun hw => ?_⟩
    · have := (hD _ _ (hVD _ _ hw)).1 rfl; omega
    · exact (hD _ _ (hVD _ _ hw)).2 rfl
    · have := hD9 _ _ (hVD _ _ hw); omega
  unfold fX5_read_L0
  rw [r6, if_neg (by rw [li, nI_leI (by omega) (by omega)]; omega), r2, zb1_s, r4, r5, zw_b2]
  refine (x_match rat pg pr (by omega) hl4 hs hp (by omega)).mono ?_
  rintro ⟨v, h1⟩ ⟨kk2, kk3, kk1, kk0, f1⟩
  dsimp only at kk2 kk3 kk1 kk0 f1 ⊢
  have c3 : (gLk g s p l).1 ≤ 3 := gLk_c
  have f1r : fr (wRr a b) h h1 := f1.mono fun c j hw => by unfold wRr; omega
  have f1a : fr (wRa V a b) h h1 := f1r.mono fun c j hw => Or.inr hw
  have K1 := keepK h h1 o f1r hK
  have e8 : zI h1 a 8 = nI l.length := (f1.I (by omega)).trans r6
  have e7 : ∀ i, i < l.length → zI h1 (a + 2) i = nI (bt l i) := fun i hi => (f1.I (by omega)).trans (r7 i hi)
  have e4 : zI h1 a 6 = nI s := (f1.I (by omega)).trans r4
  have e5 : zI h1 a 7 = nI p := (f1.I (by omega)).trans r5
  have e13 : zI h1 a 13 = nI f := (f1.I (by omega)).trans r8
  -- malformed
  have mal : (gLk g s p l).1 ≤ 1 → ¬ ((gLk g s p l).1 = 1 ∧ x1 = 0) → zw (zxv (fX5_malformed h1 a 1) (fun h_30 => (some (.inl h_30) : Option (zH ⊕ zX))) (fun e_31 h_32 => some (.inr ((.inr e_31, h_32))))) (fun r => ((gLk g s p l).1 = 1 ∧ x1 = 0 → ∃ h', r = .inr (.inl none, h') ∧ xRd h' a b sk rule s p l f ∧ K h' o ∧ fr (wRa V a b) h h') ∧ (¬ ((gLk g s p l).1 = 1 ∧ x1 = 0) → (gLk g s p l).1 ≤ 1 ∧ rule = 0 → ∃ h', r = .inr (.inr 2, h') ∧ xRef h' a fed s l ∧ K h' o ∧ fr (wRx V a b) h h') ∧ (¬ ((gLk g s p l).1 = 1 ∧ x1 = 0) → ¬ ((gLk g s p l).1 ≤ 1 ∧ rule = 0) → ∃ h', r = .inl h' ∧ xRd h' a b sk rule (gR1 g rule sg s p l).2.2.1 (gR1 g rule sg s p l).2.2.2.1 (l.drop (gR1 g rule sg s p l).1) (f + (gR1 g rule sg s p l).2.2.2.2) ∧ K h' (o ++ (gR1 g rule sg s p l).2.1) ∧ fr (wRa V a b) h h')) := by
    intro c1 nw
    obtain ⟨st1, pg1, zp1, sg1, fed1, ru1, sk1, b1⟩ := keep h1 f1a
    unfold fX5_malformed
    rw [ru1]
    by_cases r0 : rule = 0
    · rw [if_pos (by rw [r0]; rfl)]
      unfold fX4_ends_3
      rw [fed1, e8, pk_sub hf2]
      refine ⟨_, rfl, fun q => absurd q nw, fun _ _ => ⟨_, rfl, ⟨?_, ?_, ?_, ?_, ?_, ?_⟩, ?_, ?_⟩, fun _ q => absurd ⟨c1, r0⟩ q⟩
      · rw [eI, if_neg (by omega), eI, if_neg (by omega), eI, if_neg (by omega), eI, if_neg (by omega), eIs]
      · rw [show (1 : Nat) + 1 = 2 from rfl, eIs]
      · rw [eI, if_neg (by omega), eI, if_neg (by omega), eI, if_neg (by omega), eIs]
      · rw [eI, if_neg (by omega), eI, if_neg (by omega), eIs]
      · rw [eI, if_neg (by omega), eIs]
      · rw [eI, if_neg (by omega), eI, if_neg (by omega), eI, if_neg (by omega), eI, if_neg (by omega), eI, if_neg (by omega)]; exact e4
      · refine S.2.1 h1 _ o (fun c j => c = 1 ∧ j = 19 ∨ c = 2 ∨ c = a ∧ (j = 7 ∨ j = 8 ∨ j = 10)) (((((fr.refl _ h1).sI (by omega) _).sI (by omega) _).sI (by omega) _).sI (by omega) _ |>.sI (by omega) _) (fun c j hd hw => ?_) K1
        have d1 := hD c j hd
        have d2 := hD9 c j hd
        omega
      · have f1x : fr (wRx V a b) h h1 := f1a.mono fun c j hw => Or.inl hw
        exact ((((f1x.sI (by unfold wRx; omega) _).sI (by unfold wRx; omega) _).sI (by unfold wRx wRa wRr; omega) _).sI (by unfold wRx wRa wRr; omega) _).sI (by unfold wRx; omega) _
    rw [if_neg (by rw [n_0 (by omega)]; exact r0)]
    have eg : gR1 g rule sg s p l = (1, (if rule = 1 then units sg else if rule = 3 then [56320 + bt l 0] else []), s, 4, 1) := by
      unfold gR1
      rw [if_neg (by omega), if_neg (by omega)]
    rw [eg]
    have hb0 : zI h1 (a + 2) (0 : Int32).toNatClampNeg = nI (bt l 0) := e7 0 hlen
    rw [hb0]
    obtain ⟨h2, sk2, f2, q8, q7⟩ := x_skip (n := 1) e8 e7 (by omega) hl4 (by omega)
    rw [zck_pos (pk_in 0 4 (by omega)), show fX5_skip h1 a 1 1 = some h2 from sk2, zb1_s]
    have f2r : fr (wRr a b) h1 h2 := f2.mono fun c j hw => by unfold wRr; omega
    have f3r : fr (wRr a b) h1 (zsI (zsI h2 a 7 4) a 13 (zI (zsI h2 a 7 4) a 13 + 1)) := (f2r.sI (by unfold wRr; omega) _).sI (by unfold wRr; omega) _
    have x3 : zI (zsI h2 a 7 4) a 13 = nI f := by rw [eI, if_neg (by omega), f2.I (by omega)]; exact e13
    show zw (zxv (if zI (zsI (zsI h2 a 7 4) a 13 (zI (zsI h2 a 7 4) a 13 + 1)) a 3 = 1 then _ else _) _ _) _
    generalize hh3 : zsI (zsI h2 a 7 4) a 13 (zI (zsI h2 a 7 4) a 13 + 1) = h3 at *
    have f3a : fr (wRa V a b) h h3 := f1a.trans (f3r.mono fun c j hw => Or.inr hw)
    have K3 := keepK h1 h3 o f3r K1
    obtain ⟨st3, pg3, zp3, sg3, fed3, ru3, sk3, b3⟩ := keep h3 f3a
    have R3 : ∀ h4, fr V h3 h4 → xRd h4 a b sk rule s 4 (l.drop 1) (f + 1) := fun h4 f4 => by
      obtain ⟨kv1, kv2, kv3⟩ := keepV h3 h4 f4
      obtain ⟨st4, pg4, zp4, sg4, fed4, ru4, sk4, b4⟩ := keep h4 (f3a.trans (f4.mono fun c j hw => Or.inl hw))
      refine ⟨sk4, b4, ru4, ?_, ?_, ?_, fun i hi => ?_, ?_⟩
      · rw [kv1 6 (by omega) (by omega), ← hh3, eI, if_neg (by omega), eI, if_neg (by omega), f2.I (by omega)]; exact e4
      · rw [kv1 7 (by omega) (by omega), ← hh3, eI, if_neg (by omega), eIs]; rfl
      · rw [kv1 8 (by omega) (by omega), ← hh3, eI, if_neg (by omega), eI, if_neg (by omega)]; exact q8
      · rw [kv2, ← hh3, eI, if_neg (by omega), eI, if_neg (by omega)]; exact q7 i hi
      · rw [kv1 13 (by omega) (by omega), ← hh3, eIs, x3, nI_1]
    have fin : ∀ h4 o4, o4 = o ++ (if rule = 1 then units sg else if rule = 3 then [56320 + bt l 0] else []) → K h4 o4 → fr V h3 h4 → ((gLk g s p l).1 = 1 ∧ x1 = 0 → ∃ h', (Sum.inl h4 : zH ⊕ zX) = .inr (.inl none, h') ∧ xRd h' a b sk rule s p l f ∧ K h' o ∧ fr (wRa V a b) h h') ∧ (¬ ((gLk g s p l).1 = 1 ∧ x1 = 0) → (gLk g s p l).1 ≤ 1 ∧ rule = 0 → ∃ h', (Sum.inl h4 : zH ⊕ zX) = .inr (.inr 2, h') ∧ xRef h' a fed s l ∧ K h' o ∧ fr (wRx V a b) h h') ∧ (¬ ((gLk g s p l).1 = 1 ∧ x1 = 0) → ¬ ((gLk g s p l).1 ≤ 1 ∧ rule = 0) → ∃ h', (Sum.inl h4 : zH ⊕ zX) = .inl h' ∧ xRd h' a b sk rule s 4 (l.drop 1) (f + 1) ∧ K h' (o ++ (if rule = 1 then units sg else if rule = 3 then [56320 + bt l 0] else [])) ∧ fr (wRa V a b) h h') := by
      intro h4 o4 ho4 k4 f4
      refine ⟨fun q => absurd q nw, fun _ q => absurd q.2 r0, fun _ _ => ⟨h4, rfl, R3 h4 f4, by rw [← ho4]; exact k4, f3a.trans (f4.mono fun c j hw => Or.inl hw)⟩⟩
    rw [ru3]
    by_cases r1' : rule = 1
    · obtain ⟨h4, e4', k4, f4⟩ := x_putPoint S st3 K3 (v := sg) ho hsg2
      rw [if_pos (by rw [r1']; rfl), sk3, zb1_s, zck_pos (pk_in 0 2 (by omega)), show zI h3 (1 + 27) (0 : Int32).toNatClampNeg = nI sg from sg3, e4', zxv_n, zxv_n, zw_some]
      exact fin h4 _ (by rw [if_pos r1']) k4 f4
    rw [if_neg (by rw [li, nI_eq (by omega) (by omega)]; exact r1')]
    by_cases r3' : rule = 3
    · obtain ⟨h4, e4', k4, f4⟩ := S.1 h3 o (56320 + bt l 0) st3 K3 (by omega)
      rw [if_pos (by rw [r3']; rfl), sk3, zb1_s, show (56320 : Int32) = nI 56320 from rfl, nI_add, e4', zxv_n, zxv_n, zw_some]
      exact fin h4 _ (by rw [if_neg r1', if_pos r3']) k4 f4
    · rw [if_neg (by rw [li, nI_eq (by omega) (by omega)]; exact r3'), zxv_n, zw_some]
      exact fin h3 _ (by rw [if_neg r1', if_neg r3', List.append_nil]) K3 (fr.refl _ _)
  by_cases c1 : (gLk g s p l).1 ≤ 1
  · by_cases c0 : (gLk g s p l).1 = 0
    · have := kk0 c0
      subst this
      rw [if_pos (by decide)]
      unfold fX5_read_J40
      rw [if_neg (by decide)]
      exact mal c1 (by omega)
    · have := kk1 (by omega)
      subst this
      rw [if_neg (by rw [neg_nn neg1]; exact id)]
      by_cases hx : x1 = 0
      · rw [if_pos hx, zw_some]
        refine ⟨fun _ => ⟨h1, rfl, ?_, K1, f1a⟩, fun q => absurd ⟨by omega, hx⟩ q, fun q => absurd ⟨by omega, hx⟩ q⟩
        obtain ⟨st1, pg1, zp1, sg1, fed1, ru1, sk1, b1⟩ := keep h1 f1a
        exact ⟨sk1, b1, ru1, e4, e5, e8, e7, e13⟩
      · rw [if_neg hx]
        unfold fX5_read_J40
        rw [if_neg (by decide)]
        exact mal c1 (fun q => hx q.2)
  have nw : ¬ ((gLk g s p l).1 = 1 ∧ x1 = 0) := fun q => by omega
  -- something was hit
  have hit : ∀ n, 1 ≤ n → n ≤ l.length → v = nI n → (gR1 g rule sg s p l).1 = n → zw (fX5_read_J40 h1 a 1 x1 (nI n)) (fun r => ((gLk g s p l).1 = 1 ∧ x1 = 0 → ∃ h', r = .inr (.inl none, h') ∧ xRd h' a b sk rule s p l f ∧ K h' o ∧ fr (wRa V a b) h h') ∧ (¬ ((gLk g s p l).1 = 1 ∧ x1 = 0) → (gLk g s p l).1 ≤ 1 ∧ rule = 0 → ∃ h', r = .inr (.inr 2, h') ∧ xRef h' a fed s l ∧ K h' o ∧ fr (wRx V a b) h h') ∧ (¬ ((gLk g s p l).1 = 1 ∧ x1 = 0) → ¬ ((gLk g s p l).1 ≤ 1 ∧ rule = 0) → ∃ h', r = .inl h' ∧ xRd h' a b sk rule (gR1 g rule sg s p l).2.2.1 (gR1 g rule sg s p l).2.2.2.1 (l.drop (gR1 g rule sg s p l).1) (f + (gR1 g rule sg s p l).2.2.2.2) ∧ K h' (o ++ (gR1 g rule sg s p l).2.1) ∧ fr (wRa V a b) h h')) := by
    intro n n1 n2 hvn hgn
    unfold fX5_read_J40
    rw [if_pos (by rw [li, nI_ltI (by omega) (by omega)]; omega), zw_b1]
    refine (x_skip (n := n) e8 e7 n2 hl4 n1).mono ?_
    rintro h2 ⟨f2, q8, q7⟩
    have f2r : fr (wRr a b) h1 h2 := f2.mono fun c j hw => by unfold wRr; omega
    have f2a : fr (wRa V a b) h h2 := f1a.trans (f2r.mono fun c j hw => Or.inr hw)
    obtain ⟨st2, pg2, zp2, sg2, fed2, ru2, sk2, b2⟩ := keep h2 f2a
    have K2 := keepK h1 h2 o f2r K1
    have eb : ∀ j, zI h2 b j = zI h1 b j := fun j => f2.I (by omega)
    rw [b2, zb1_s, zw_ck, eb 0]
    refine ⟨zp2, ?_⟩
    by_cases c2 : (gLk g s p l).1 = 2
    · obtain ⟨k21, k22⟩ := kk2 c2
      have hh := gLk_hit sm hB c2
      have eg : gR1 g rule sg s p l = ((gLk g s p l).2.1, units (gLk g s p l).2.2, s, 4, 0) := by unfold gR1; rw [if_pos c2]
      rw [k22, if_neg (nI_pos (by omega)), zw_let]
      have f3r : fr (wRr a b) h1 (zsI h2 a 7 4) := f2r.sI (by unfold wRr; omega) _
      have f3a : fr (wRa V a b) h (zsI h2 a 7 4) := f1a.trans (f3r.mono fun c j hw => Or.inr hw)
      obtain ⟨st3, pg3, zp3, sg3, fed3, ru3, sk3, b3⟩ := keep _ f3a
      have K3 := keepK h1 _ o f3r K1
      obtain ⟨h4, e4', k4, f4⟩ := x_putPoint S st3 K3 (v := (gLk g s p l).2.2) ho hh.2.2.2
      rw [sk3, zb1_s, b3, zb1_s, zw_ck, eI, if_neg (by omega), eb 0, k22, e4', zxv_n, zw_some]
      refine ⟨zp3, fun q => absurd q nw, fun _ q => absurd q.1 c1, fun _ _ => ⟨h4, rfl, ?_, ?_, f3a.trans (f4.mono fun c j hw => Or.inl hw)⟩⟩
      · obtain ⟨kv1, kv2, kv3⟩ := keepV _ h4 f4
        obtain ⟨st4, pg4, zp4, sg4, fed4, ru4, sk4, b4⟩ := keep h4 (f3a.trans (f4.mono fun c j hw => Or.inl hw))
        rw [hgn, eg]
        refine ⟨sk4, b4, ru4, ?_, ?_, ?_, fun i hi => ?_, ?_⟩
        · rw [kv1 6 (by omega) (by omega), eI, if_neg (by omega), f2.I (by omega)]; exact e4
        · rw [kv1 7 (by omega) (by omega), eIs]; rfl
        · rw [kv1 8 (by omega) (by omega), eI, if_neg (by omega)]; exact q8
        · rw [kv2, eI, if_neg (by omega)]; exact q7 i hi
        · rw [kv1 13 (by omega) (by omega), eI, if_neg (by omega), f2.I (by omega)]; exact e13
      · rw [eg]; exact k4
    · have c33 : (gLk g s p l).1 = 3 := by omega
      obtain ⟨k31, k32, k33, k34⟩ := kk3 c33
      have sh := gLk_sh c33
      have ws := sm.2.2.2.2.2 _ sh.2.2.1
      rw [k32, if_pos neg1, zb1_s, zw_ck, eb 2, k34]
      refine ⟨zp2, ?_⟩
      by_cases hsk : g 12 (gLk g s p l).2.1 = 0
      · have eg : gR1 g rule sg s p l = (1, [], s, g 11 (gLk g s p l).2.1, 0) := by unfold gR1; rw [if_neg c2, if_pos c33, if_pos hsk]
        rw [if_pos (by rw [hsk]; rfl), zb1_s, zw_ck, zw_let, zw_some, eb 1, k33]
        have f3r : fr (wRr a b) h1 (zsI h2 a 7 (nI (g 11 (gLk g s p l).2.1))) := f2r.sI (by unfold wRr; omega) _
        have f3a : fr (wRa V a b) h (zsI h2 a 7 (nI (g 11 (gLk g s p l).2.1))) := f1a.trans (f3r.mono fun c j hw => Or.inr hw)
        obtain ⟨st3, pg3, zp3, sg3, fed3, ru3, sk3, b3⟩ := keep _ f3a
        have K3 := keepK h1 _ o f3r K1
        refine ⟨zp2, fun q => absurd q nw, fun _ q => absurd q.1 c1, fun _ _ => ⟨_, rfl, ?_, ?_, f3a⟩⟩
        · rw [hgn, eg]
          refine ⟨sk3, b3, ru3, ?_, ?_, ?_, fun i hi => ?_, ?_⟩
          · rw [eI, if_neg (by omega), f2.I (by omega)]; exact e4
          · rw [eIs]
          · rw [eI, if_neg (by omega)]; exact q8
          · rw [eI, if_neg (by omega)]; exact q7 i hi
          · rw [eI, if_neg (by omega), f2.I (by omega)]; exact e13
        · rw [eg, List.append_nil]; exact K3
      · have eg : gR1 g rule sg s p l = (1, [], g 11 (gLk g s p l).2.1, p, 0) := by unfold gR1; rw [if_neg c2, if_pos c33, if_neg hsk]
        rw [if_neg (by rw [n_0 (by have := ws.2.2.2.2; omega)]; exact hsk), zb1_s, zw_ck, zw_let, zw_some, eb 1, k33]
        have f3r : fr (wRr a b) h1 (zsI h2 a 6 (nI (g 11 (gLk g s p l).2.1))) := f2r.sI (by unfold wRr; omega) _
        have f3a : fr (wRa V a b) h (zsI h2 a 6 (nI (g 11 (gLk g s p l).2.1))) := f1a.trans (f3r.mono fun c j hw => Or.inr hw)
        obtain ⟨st3, pg3, zp3, sg3, fed3, ru3, sk3, b3⟩ := keep _ f3a
        have K3 := keepK h1 _ o f3r K1
        refine ⟨zp2, fun q => absurd q nw, fun _ q => absurd q.1 c1, fun _ _ => ⟨_, rfl, ?_, ?_, f3a⟩⟩
        · rw [hgn, eg]
          refine ⟨sk3, b3, ru3, ?_, ?_, ?_, fun i hi => ?_, ?_⟩
          · rw [eIs]
          · rw [eI, if_neg (by omega), f2.I (by omega)]; exact e5
          · rw [eI, if_neg (by omega)]; exact q8
          · rw [eI, if_neg (by omega)]; exact q7 i hi
          · rw [eI, if_neg (by omega), f2.I (by omega)]; exact e13
        · rw [eg, List.append_nil]; exact K3
  by_cases c2 : (gLk g s p l).1 = 2
  · have hh := gLk_hit sm hB c2
    have hv := (kk2 c2).1
    rw [hv, if_pos (nI_pos' (by omega))]
    exact hit _ hh.1 hh.2.1 hv (by unfold gR1; rw [if_pos c2])
  · have c33 : (gLk g s p l).1 = 3 := by omega
    have hv := (kk3 c33).1
    rw [hv, if_pos (by decide)]
    exact hit 1 (by omega) (by omega) hv (by unfold gR1; rw [if_neg c2, if_pos c33]; split <;> rfl)
end XRD
