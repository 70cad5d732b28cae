/-! written by tools/mkgen2.py -/
set_option maxRecDepth 100000
def g_X4_letCosts_b25 (x0 x1 x2 : Int) (Q : Int → Hp → Prop) (h : Hp) : Prop :=
  g_X4_noLess x0 (-1000) (fun r29 m29 => Ext h m29 → (Q r29 m29)) h
theorem w_X4_letCosts_25 {G : GT} {X : ET} {h0 : Hp} {x0 x1 x2 : Int} (HE : XE G X cX4_letCosts 6 RX4 7 166 h0) (hr : XR X (some .int)) (f0 : Lay_X4 h0 x0) {Q : Int → Hp → Prop} {h : Hp} (hw : g_X4_letCosts_b25 x0 x1 x2 Q  h) : Wx G X h0 (QI Q) h 25 [some (rV x0), some (iV x1), some (iV x2), none, none, none] [] := by
  refine Wx.start (fun EB => ?_)
  unfold g_X4_letCosts_b25 at hw
  refine x_aload_n HE 0 dX4_letCosts_25 rfl rfl ?_
  refine x_sipush HE dX4_letCosts_26 (by decide) ?_
  refine x_callV HE dX4_letCosts_29 rfl (fun l => k_X4_noLess (f0.ext EB) l hw) (As := [iV (-1000)]) (rest := []) rfl xc10 (Lay_X4.tag (f0.ext EB)) (lw_V q2320 q2322 qs105 q129 q2323) hy_X4_noLess rfl rfl (Nat.le_of_ble_eq_true rfl) (Nat.le_of_ble_eq_true rfl) (Nat.le_of_ble_eq_true rfl) (kkI (fun r29 m29 E29 hw => ?_))
  have hw := hw E29
  exact x_iret HE hr dX4_letCosts_32 hw
def g_X4_letCosts (x0 x1 x2 : Int) (Q : Int → Hp → Prop) (h : Hp) : Prop :=
  g_X4_good x0 (fun m1 => Ext h m1 → (g_X4_isPerson x0 x1 (fun r6 m6 => Ext m1 m6 → (((r6 = 0) → (g_X4_letCosts_b25 x0 x1 x2 Q m6)) ∧ ((r6 ≠ 0) → (g_X4_isPerson x0 x2 (fun r14 m14 => Ext m6 m14 → (((r14 = 0) → (g_X4_letCosts_b25 x0 x1 x2 Q m14)) ∧ ((r14 ≠ 0) → (((x1 ≠ x2) → (g_X4_canNotLet x0 x1 x2 (fun r36 m36 => Ext m14 m36 → (((r36 = 0) → (g_X4_tellEvening x0 (fun m52 => Ext m36 m52 → (g_X4_waitOf x0 x1 (fun r57 m57 => Ext m52 m57 → ((i32 (8 * x1)) ∧ ((i32 (12 + (8 * x1))) ∧ ((i32 ((12 + (8 * x1)) + 3)) ∧ (∀ y70 : Int, y70 = ((12 + (8 * x1)) + 3) → (((0 : Int) ≤ y70 ∧ y70 < 108) ∧ (∀ y79 : Int, y79 = (hA m57 (x0 + 5) y70) → (g_X4_its (x0 + 5) x2 3 (fun r93 m93 => Ext m57 m93 → ((i32 (r93 + 1)) ∧ (((0 : Int) ≤ y70 ∧ y70 < 108) ∧ (∀ m98 : Hp, m98 = setA m93 (x0 + 5) y70 (r93 + 1) → (g_X4_evening x0 (fun m100 => Ext m98 m100 → (((0 : Int) ≤ y70 ∧ y70 < 108) ∧ (∀ m111 : Hp, m111 = setA m100 (x0 + 5) y70 y79 → (g_X4_waitOf x0 x1 (fun r114 m114 => Ext m111 m114 → ((i32 (r114 - r57)) ∧ (Q (r114 - r57) m114))) m111)))) m98))))) m57)))))))) m52)) m36)) ∧ ((r36 ≠ 0) → (∀ m44 : Hp, m44 = setF m36 x0 11 5 → (Q (-1000) m44))))) m14)) ∧ ((x1 = x2) → (g_X4_letCosts_b25 x0 x1 x2 Q m14)))))) m6)))) m1)) h
theorem w_X4_letCosts_0 {G : GT} {X : ET} {h0 : Hp} {x0 x1 x2 : Int} (HE : XE G X cX4_letCosts 6 RX4 7 166 h0) (hr : XR X (some .int)) (f0 : Lay_X4 h0 x0) {Q : Int → Hp → Prop} {h : Hp} (hw : g_X4_letCosts x0 x1 x2 Q h) : Wx G X h0 (QI Q) h 0 [some (rV x0), some (iV x1), some (iV x2), none, none, none] [] := by
  refine Wx.start (fun EB => ?_)
  unfold g_X4_letCosts at hw
  refine x_aload_n HE 0 dX4_letCosts_0 rfl rfl ?_
  refine x_callV HE dX4_letCosts_1 rfl (fun l => k_X4_good (f0.ext EB) l hw) (As := []) (rest := []) rfl xc10 (Lay_X4.tag (f0.ext EB)) (lw_V q1955 q1957 qs55 q129 q1958) hy_X4_good rfl rfl (Nat.le_of_ble_eq_true rfl) (Nat.le_of_ble_eq_true rfl) (Nat.le_of_ble_eq_true rfl) (kkV (fun m1 E1 hw => ?_))
  have hw := hw E1
  refine x_aload_n HE 0 dX4_letCosts_4 rfl rfl ?_
  refine x_iload_n HE 1 dX4_letCosts_5 rfl rfl ?_
  refine x_callV HE dX4_letCosts_6 rfl (fun l => k_X4_isPerson (f0.ext (EB.tr E1)) l hw) (As := [iV x1]) (rest := []) rfl xc10 (Lay_X4.tag (f0.ext (EB.tr E1))) (lw_V q2144 q2146 qs84 q129 q2147) hy_X4_isPerson rfl rfl (Nat.le_of_ble_eq_true rfl) (Nat.le_of_ble_eq_true rfl) (Nat.le_of_ble_eq_true rfl) (kkI (fun r6 m6 E6 hw => ?_))
  have hw := hw E6
  refine x_if_eq HE 25 dX4_letCosts_9 (by decide) (fun c9 => ?_) (fun c9 => ?_)
  · have hw := hw.1 c9
    exact w_X4_letCosts_25 HE hr f0 hw
  · have hw := hw.2 c9
    refine x_aload_n HE 0 dX4_letCosts_12 rfl rfl ?_
    refine x_iload_n HE 2 dX4_letCosts_13 rfl rfl ?_
    refine x_callV HE dX4_letCosts_14 rfl (fun l => k_X4_isPerson (f0.ext (EB.tr (E1.tr E6))) l hw) (As := [iV x2]) (rest := []) rfl xc10 (Lay_X4.tag (f0.ext (EB.tr (E1.tr E6)))) (lw_V q2144 q2146 qs84 q129 q2147) hy_X4_isPerson rfl rfl (Nat.le_of_ble_eq_true rfl) (Nat.le_of_ble_eq_true rfl) (Nat.le_of_ble_eq_true rfl) (kkI (fun r14 m14 E14 hw => ?_))
    have hw := hw E14
    refine x_if_eq HE 25 dX4_letCosts_17 (by decide) (fun c17 => ?_) (fun c17 => ?_)
    · have hw := hw.1 c17
      exact w_X4_letCosts_25 HE hr f0 hw
    · have hw := hw.2 c17
      refine x_iload_n HE 1 dX4_letCosts_20 rfl rfl ?_
      refine x_iload_n HE 2 dX4_letCosts_21 rfl rfl ?_
      refine x_ic_ne HE 33 dX4_letCosts_22 (by decide) (fun c22 => ?_) (fun c22 => ?_)
      · have hw := hw.1 c22
        refine x_aload_n HE 0 dX4_letCosts_33 rfl rfl ?_
        refine x_iload_n HE 1 dX4_letCosts_34 rfl rfl ?_
        refine x_iload_n HE 2 dX4_letCosts_35 rfl rfl ?_
        refine x_callV HE dX4_letCosts_36 rfl (fun l => k_X4_canNotLet (f0.ext (EB.tr (E1.tr (E6.tr E14)))) l hw) (As := [iV x1, iV x2]) (rest := []) rfl xc10 (Lay_X4.tag (f0.ext (EB.tr (E1.tr (E6.tr E14))))) (lw_V q2368 q2370 qs110 q129 q2371) hy_X4_canNotLet rfl rfl (Nat.le_of_ble_eq_true rfl) (Nat.le_of_ble_eq_true rfl) (Nat.le_of_ble_eq_true rfl) (kkI (fun r36 m36 E36 hw => ?_))
        have hw := hw E36
        refine x_if_eq HE 51 dX4_letCosts_39 (by decide) (fun c39 => ?_) (fun c39 => ?_)
        · have hw := hw.1 c39
          refine x_aload_n HE 0 dX4_letCosts_51 rfl rfl ?_
          refine x_callV HE dX4_letCosts_52 rfl (fun l => k_X4_tellEvening (f0.ext (EB.tr (E1.tr (E6.tr (E14.tr E36))))) l hw) (As := []) (rest := []) rfl xc10 (Lay_X4.tag (f0.ext (EB.tr (E1.tr (E6.tr (E14.tr E36)))))) (lw_V q2222 q2224 qs94 q129 q2225) hy_X4_tellEvening rfl rfl (Nat.le_of_ble_eq_true rfl) (Nat.le_of_ble_eq_true rfl) (Nat.le_of_ble_eq_true rfl) (kkV (fun m52 E52 hw => ?_))
          have hw := hw E52
          refine x_aload_n HE 0 dX4_letCosts_55 rfl rfl ?_
          refine x_iload_n HE 1 dX4_letCosts_56 rfl rfl ?_
          refine x_callV HE dX4_letCosts_57 rfl (fun l => k_X4_waitOf (f0.ext (EB.tr (E1.tr (E6.tr (E14.tr (E36.tr E52)))))) l hw) (As := [iV x1]) (rest := []) rfl xc10 (Lay_X4.tag (f0.ext (EB.tr (E1.tr (E6.tr (E14.tr (E36.tr E52))))))) (lw_V q2246 q2248 qs99 q129 q2249) hy_X4_waitOf rfl rfl (Nat.le_of_ble_eq_true rfl) (Nat.le_of_ble_eq_true rfl) (Nat.le_of_ble_eq_true rfl) (kkI (fun r57 m57 E57 hw => ?_))
          have hw := hw E57
          refine x_istore_n HE 3 (lo' := [some (rV x0), some (iV x1), some (iV x2), some (iV r57), none, none]) dX4_letCosts_60 rfl (Nat.le_of_ble_eq_true rfl) rfl ?_
          refine x_bipush HE dX4_letCosts_61 (by decide) ?_
          refine x_bipush HE dX4_letCosts_63 (by decide) ?_
          refine x_iload_n HE 1 dX4_letCosts_65 rfl rfl ?_
          obtain ⟨v66, hw⟩ := hw
          refine x_imul HE dX4_letCosts_66 v66 ?_
          obtain ⟨v67, hw⟩ := hw
          refine x_iadd HE dX4_letCosts_67 v67 ?_
          refine x_iconst HE dX4_letCosts_68 (by decide) ?_
          obtain ⟨v69, hw⟩ := hw
          refine x_iadd HE dX4_letCosts_69 v69 ?_
          refine x_istoreN HE (fun y70 => [some (rV x0), some (iV x1), some (iV x2), some (iV r57), some (iV y70), none]) dX4_letCosts_70 (Nat.le_of_ble_eq_true rfl) (fun _ => rfl) (fun y70 ey70 => ?_)
          have hw := hw y70 ey70
          refine x_aload_n HE 0 dX4_letCosts_72 rfl rfl ?_
          refine x_gR HE dX4_letCosts_73 fd_X4_17 q1854 (Or.inl rfl) (Lay_X4.tag (f0.ext (EB.tr (E1.tr (E6.tr (E14.tr (E36.tr (E52.tr E57)))))))) (Lay_X4_17 (f0.ext (EB.tr (E1.tr (E6.tr (E14.tr (E36.tr (E52.tr E57)))))))).1 ?_
          refine x_iload HE dX4_letCosts_76 rfl ?_
          obtain ⟨i78, hw⟩ := hw
          refine x_iald HE dX4_letCosts_78 (t := 1) (by decide) ((Lay_X4_17 (f0.ext (EB.tr (E1.tr (E6.tr (E14.tr (E36.tr (E52.tr E57)))))))).2.1) (ix_of ((Lay_X4_17 (f0.ext (EB.tr (E1.tr (E6.tr (E14.tr (E36.tr (E52.tr E57)))))))).2.2) i78) rfl ?_
          refine x_istoreN HE (fun y79 => [some (rV x0), some (iV x1), some (iV x2), some (iV r57), some (iV y70), some (iV y79)]) dX4_letCosts_79 (Nat.le_of_ble_eq_true rfl) (fun _ => rfl) (fun y79 ey79 => ?_)
          have hw := hw y79 ey79
          refine x_aload_n HE 0 dX4_letCosts_81 rfl rfl ?_
          refine x_gR HE dX4_letCosts_82 fd_X4_17 q1854 (Or.inl rfl) (Lay_X4.tag (f0.ext (EB.tr (E1.tr (E6.tr (E14.tr (E36.tr (E52.tr E57)))))))) (Lay_X4_17 (f0.ext (EB.tr (E1.tr (E6.tr (E14.tr (E36.tr (E52.tr E57)))))))).1 ?_
          refine x_iload HE dX4_letCosts_85 rfl ?_
          refine x_aload_n HE 0 dX4_letCosts_87 rfl rfl ?_
          refine x_gR HE dX4_letCosts_88 fd_X4_17 q1854 (Or.inl rfl) (Lay_X4.tag (f0.ext (EB.tr (E1.tr (E6.tr (E14.tr (E36.tr (E52.tr E57)))))))) (Lay_X4_17 (f0.ext (EB.tr (E1.tr (E6.tr (E14.tr (E36.tr (E52.tr E57)))))))).1 ?_
          refine x_iload_n HE 2 dX4_letCosts_91 rfl rfl ?_
          refine x_iconst HE dX4_letCosts_92 (by decide) ?_
          refine x_callS HE dX4_letCosts_93 rfl (fun l => k_X4_its ⟨(Lay_X4_17 (f0.ext (EB.tr (E1.tr (E6.tr (E14.tr (E36.tr (E52.tr E57)))))))).2.1, (Lay_X4_17 (f0.ext (EB.tr (E1.tr (E6.tr (E14.tr (E36.tr (E52.tr E57)))))))).2.2⟩ l hw) (As := [rV (x0 + 5), iV x2, iV 3]) (rest := [iV y70, rV (x0 + 5)]) rfl (lw_S q2168 q2169 q129 q2170) hy_X4_its.2 rfl rfl (Nat.le_of_ble_eq_true rfl) (Nat.le_of_ble_eq_true rfl) (Nat.le_of_ble_eq_true rfl) (kkI (fun r93 m93 E93 hw => ?_))
          have hw := hw E93
          refine x_iconst HE dX4_letCosts_96 (by decide) ?_
          obtain ⟨v97, hw⟩ := hw
          refine x_iadd HE dX4_letCosts_97 v97 ?_
          obtain ⟨i98, hw⟩ := hw
          refine x_iast HE dX4_letCosts_98 ((Lay_X4_17 (f0.ext (EB.tr (E1.tr (E6.tr (E14.tr (E36.tr (E52.tr (E57.tr E93))))))))).2.1) (ix_of ((Lay_X4_17 (f0.ext (EB.tr (E1.tr (E6.tr (E14.tr (E36.tr (E52.tr (E57.tr E93))))))))).2.2) i98) (fun m98 em98 E98 => ?_)
          have hw := hw m98 em98
          refine x_aload_n HE 0 dX4_letCosts_99 rfl rfl ?_
          refine x_callV HE dX4_letCosts_100 rfl (fun l => k_X4_evening (f0.ext (EB.tr (E1.tr (E6.tr (E14.tr (E36.tr (E52.tr (E57.tr (E93.tr E98))))))))) l hw) (As := []) (rest := []) rfl xc10 (Lay_X4.tag (f0.ext (EB.tr (E1.tr (E6.tr (E14.tr (E36.tr (E52.tr (E57.tr (E93.tr E98)))))))))) (lw_V q2226 q2228 qs95 q129 q2229) hy_X4_evening rfl rfl (Nat.le_of_ble_eq_true rfl) (Nat.le_of_ble_eq_true rfl) (Nat.le_of_ble_eq_true rfl) (kkV (fun m100 E100 hw => ?_))
          have hw := hw E100
          refine x_aload_n HE 0 dX4_letCosts_103 rfl rfl ?_
          refine x_gR HE dX4_letCosts_104 fd_X4_17 q1854 (Or.inl rfl) (Lay_X4.tag (f0.ext (EB.tr (E1.tr (E6.tr (E14.tr (E36.tr (E52.tr (E57.tr (E93.tr (E98.tr E100))))))))))) (Lay_X4_17 (f0.ext (EB.tr (E1.tr (E6.tr (E14.tr (E36.tr (E52.tr (E57.tr (E93.tr (E98.tr E100))))))))))).1 ?_
          refine x_iload HE dX4_letCosts_107 rfl ?_
          refine x_iload HE dX4_letCosts_109 rfl ?_
          obtain ⟨i111, hw⟩ := hw
          refine x_iast HE dX4_letCosts_111 ((Lay_X4_17 (f0.ext (EB.tr (E1.tr (E6.tr (E14.tr (E36.tr (E52.tr (E57.tr (E93.tr (E98.tr E100))))))))))).2.1) (ix_of ((Lay_X4_17 (f0.ext (EB.tr (E1.tr (E6.tr (E14.tr (E36.tr (E52.tr (E57.tr (E93.tr (E98.tr E100))))))))))).2.2) i111) (fun m111 em111 E111 => ?_)
          have hw := hw m111 em111
          refine x_aload_n HE 0 dX4_letCosts_112 rfl rfl ?_
          refine x_iload_n HE 1 dX4_letCosts_113 rfl rfl ?_
          refine x_callV HE dX4_letCosts_114 rfl (fun l => k_X4_waitOf (f0.ext (EB.tr (E1.tr (E6.tr (E14.tr (E36.tr (E52.tr (E57.tr (E93.tr (E98.tr (E100.tr E111))))))))))) l hw) (As := [iV x1]) (rest := []) rfl xc10 (Lay_X4.tag (f0.ext (EB.tr (E1.tr (E6.tr (E14.tr (E36.tr (E52.tr (E57.tr (E93.tr (E98.tr (E100.tr E111)))))))))))) (lw_V q2246 q2248 qs99 q129 q2249) hy_X4_waitOf rfl rfl (Nat.le_of_ble_eq_true rfl) (Nat.le_of_ble_eq_true rfl) (Nat.le_of_ble_eq_true rfl) (kkI (fun r114 m114 E114 hw => ?_))
          have hw := hw E114
          refine x_iload_n HE 3 dX4_letCosts_117 rfl rfl ?_
          obtain ⟨v118, hw⟩ := hw
          refine x_isub HE dX4_letCosts_118 v118 ?_
          exact x_iret HE hr dX4_letCosts_119 hw
        · have hw := hw.2 c39
          refine x_aload_n HE 0 dX4_letCosts_42 rfl rfl ?_
          refine x_iconst HE dX4_letCosts_43 (by decide) ?_
          refine x_pI HE dX4_letCosts_44 fd_X4_11 q1848 (Or.inl rfl) (Or.inl rfl) (nf_int _) (Lay_X4.tag (f0.ext (EB.tr (E1.tr (E6.tr (E14.tr E36)))))) (nro (by decide)) (Or.inl nf_X4_11) (fun m44 em44 E44 => ?_)
          have hw := hw m44 em44
          refine x_sipush HE dX4_letCosts_47 (by decide) ?_
          exact x_iret HE hr dX4_letCosts_50 hw
      · have hw := hw.2 c22
        exact w_X4_letCosts_25 HE hr f0 hw
theorem k_X4_letCosts {G : GT} {x0 x1 x2 : Int} {Q : Int → Hp → Prop} {h : Hp} (f0 : Lay_X4 h x0) (l : Launch) (hw : g_X4_letCosts x0 x1 x2 Q h) : XM G l yX4_letCosts cX4_letCosts 6 (some .int) 7 166 [rV x0, iV x1, iV x2] (QI Q) h :=
  XM.of (by decide) (Nat.le_of_ble_eq_true rfl) (fun X HE hr hn => w_X4_letCosts_0 HE hr f0 hw)
def g_X4_allPeople (x0 : Int) (Q : Int → Hp → Prop) (h : Hp) : Prop :=
  (i32 ((bShl 1 (hA h (x0 + 3) 5)) - 1)) ∧ (Q ((bShl 1 (hA h (x0 + 3) 5)) - 1) h)
theorem w_X4_allPeople_0 {G : GT} {X : ET} {h0 : Hp} {x0 : Int} (HE : XE G X cX4_allPeople 1 RX4 0 0 h0) (hr : XR X (some .int)) (f0 : Lay_X4 h0 x0) {Q : Int → Hp → Prop} {h : Hp} (hw : g_X4_allPeople x0 Q h) : Wx G X h0 (QI Q) h 0 [some (rV x0)] [] := by
  refine Wx.start (fun EB => ?_)
  unfold g_X4_allPeople at hw
  refine x_iconst HE dX4_allPeople_0 (by decide) ?_
  refine x_aload_n HE 0 dX4_allPeople_1 rfl rfl ?_
  refine x_gR HE dX4_allPeople_2 fd_X4_15 q1852 (Or.inl rfl) (Lay_X4.tag (f0.ext EB)) (Lay_X4_15 (f0.ext EB)).1 ?_
  refine x_iconst HE dX4_allPeople_5 (by decide) ?_
  refine x_iald HE dX4_allPeople_6 (t := 1) (by decide) ((Lay_X4_15 (f0.ext EB)).2.1) (ix_of ((Lay_X4_15 (f0.ext EB)).2.2) (by decide)) rfl ?_
  refine x_ishl HE dX4_allPeople_7 ?_
  refine x_iconst HE dX4_allPeople_8 (by decide) ?_
  obtain ⟨v9, hw⟩ := hw
  refine x_isub HE dX4_allPeople_9 v9 ?_
  exact x_iret HE hr dX4_allPeople_10 hw
theorem k_X4_allPeople {G : GT} {x0 : Int} {Q : Int → Hp → Prop} {h : Hp} (f0 : Lay_X4 h x0) (l : Launch) (hw : g_X4_allPeople x0 Q h) : XM G l yX4_allPeople cX4_allPeople 1 (some .int) 0 0 [rV x0] (QI Q) h :=
  XM.of (by decide) (Nat.le_of_ble_eq_true rfl) (fun X HE hr hn => w_X4_allPeople_0 HE hr f0 hw)
def g_X4_setWhy_b28 (x0 x1 : Int) (Q : Int → Hp → Prop) (s0 : Int) (h : Hp) : Prop :=
  Q s0 h
theorem w_X4_setWhy_28 {G : GT} {X : ET} {h0 : Hp} {x0 x1 : Int} (HE : XE G X cX4_setWhy 2 RX4 1 22 h0) (hr : XR X (some .int)) (f0 : Lay_X4 h0 x0) {Q : Int → Hp → Prop} {s0 : Int} {h : Hp} (hw : g_X4_setWhy_b28 x0 x1 Q s0 h) : Wx G X h0 (QI Q) h 28 [some (rV x0), some (iV x1)] [iV s0] := by
  refine Wx.start (fun EB => ?_)
  unfold g_X4_setWhy_b28 at hw
  exact x_iret HE hr dX4_setWhy_28 hw
def g_X4_setWhy (x0 x1 : Int) (Q : Int → Hp → Prop) (h : Hp) : Prop :=
  (((hF h x0 14) ≠ 0) → (g_X4_allPeople x0 (fun r14 m14 => Ext h m14 → (g_X4_within x1 0 r14 (fun r17 m17 => Ext m14 m17 → (((r17 = 0) → (g_X4_setWhy_b28 x0 x1 Q 2 m17)) ∧ ((r17 ≠ 0) → (g_X4_setWhy_b28 x0 x1 Q 0 m17)))) m14)) h)) ∧ (((hF h x0 14) = 0) → (g_X4_setWhy_b28 x0 x1 Q 1 h))
theorem w_X4_setWhy_0 {G : GT} {X : ET} {h0 : Hp} {x0 x1 : Int} (HE : XE G X cX4_setWhy 2 RX4 1 22 h0) (hr : XR X (some .int)) (f0 : Lay_X4 h0 x0) {Q : Int → Hp → Prop} {h : Hp} (hw : g_X4_setWhy x0 x1 Q h) : Wx G X h0 (QI Q) h 0 [some (rV x0), some (iV x1)] [] := by
  refine Wx.start (fun EB => ?_)
  unfold g_X4_setWhy at hw
  refine x_aload_n HE 0 dX4_setWhy_0 rfl rfl ?_
  refine x_gI HE dX4_setWhy_1 fd_X4_14 q1851 (Or.inl rfl) (Lay_X4.tag (f0.ext EB)) rfl ?_
  refine x_if_ne HE 11 dX4_setWhy_4 (by decide) (fun c4 => ?_) (fun c4 => ?_)
  · have hw := hw.1 c4
    refine x_iload_n HE 1 dX4_setWhy_11 rfl rfl ?_
    refine x_iconst HE dX4_setWhy_12 (by decide) ?_
    refine x_aload_n HE 0 dX4_setWhy_13 rfl rfl ?_
    refine x_callV HE dX4_setWhy_14 rfl (fun l => k_X4_allPeople (f0.ext EB) l hw) (As := []) (rest := [iV 0, iV x1]) rfl xc10 (Lay_X4.tag (f0.ext EB)) (lw_V q2380 q2382 qs112 q129 q2383) hy_X4_allPeople rfl rfl (Nat.le_of_ble_eq_true rfl) (Nat.le_of_ble_eq_true rfl) (Nat.le_of_ble_eq_true rfl) (kkI (fun r14 m14 E14 hw => ?_))
    have hw := hw E14
    refine x_callS HE dX4_setWhy_17 rfl (fun l => k_X4_within  l hw) (As := [iV x1, iV 0, iV r14]) (rest := []) rfl (lw_S q1959 q1960 q129 q1961) hy_X4_within.2 rfl rfl (Nat.le_of_ble_eq_true rfl) (Nat.le_of_ble_eq_true rfl) (Nat.le_of_ble_eq_true rfl) (kkI (fun r17 m17 E17 hw => ?_))
    have hw := hw E17
    refine x_if_eq HE 27 dX4_setWhy_20 (by decide) (fun c20 => ?_) (fun c20 => ?_)
    · have hw := hw.1 c20
      refine x_iconst HE dX4_setWhy_27 (by decide) ?_
      exact w_X4_setWhy_28 HE hr f0 hw
    · have hw := hw.2 c20
      refine x_iconst HE dX4_setWhy_23 (by decide) ?_
      refine x_goto HE 28 dX4_setWhy_24 (by decide) ?_
      exact w_X4_setWhy_28 HE hr f0 hw
  · have hw := hw.2 c4
    refine x_iconst HE dX4_setWhy_7 (by decide) ?_
    refine x_goto HE 28 dX4_setWhy_8 (by decide) ?_
    exact w_X4_setWhy_28 HE hr f0 hw
theorem k_X4_setWhy {G : GT} {x0 x1 : Int} {Q : Int → Hp → Prop} {h : Hp} (f0 : Lay_X4 h x0) (l : Launch) (hw : g_X4_setWhy x0 x1 Q h) : XM G l yX4_setWhy cX4_setWhy 2 (some .int) 1 22 [rV x0, iV x1] (QI Q) h :=
  XM.of (by decide) (Nat.le_of_ble_eq_true rfl) (fun X HE hr hn => w_X4_setWhy_0 HE hr f0 hw)
def g_X4_layHonest_b50 (x0 x1 : Int) (Q : Hp → Prop) (h : Hp) : Prop :=
  g_X4_copy (x0 + 5) 0 (x0 + 11) 0 108 (fun m62 => Ext h m62 → (g_X4_layFirst x0 (x0 + 5) (fun m70 => Ext m62 m70 → (g_X4_evening x0 (fun m74 => Ext m70 m74 → (g_X4_copy (x0 + 11) 0 (x0 + 5) 0 108 (fun m89 => Ext m74 m89 → (Q m89)) m74)) m70)) m62)) h
theorem w_X4_layHonest_50 {G : GT} {X : ET} {h0 : Hp} {x0 x1 : Int} (HE : XE G X cX4_layHonest 3 RX4 6 146 h0) (hr : XR X none) (f0 : Lay_X4 h0 x0) {Q : Hp → Prop} {h : Hp} (hw : g_X4_layHonest_b50 x0 x1 Q  h) : Wx G X h0 (QV Q) h 50 [some (rV x0), some (iV x1), none] [] := by
  refine Wx.start (fun EB => ?_)
  unfold g_X4_layHonest_b50 at hw
  refine x_aload_n HE 0 dX4_layHonest_50 rfl rfl ?_
  refine x_gR HE dX4_layHonest_51 fd_X4_17 q1854 (Or.inl rfl) (Lay_X4.tag (f0.ext EB)) (Lay_X4_17 (f0.ext EB)).1 ?_
  refine x_iconst HE dX4_layHonest_54 (by decide) ?_
  refine x_aload_n HE 0 dX4_layHonest_55 rfl rfl ?_
  refine x_gR HE dX4_layHonest_56 fd_X4_29 q1866 (Or.inl rfl) (Lay_X4.tag (f0.ext EB)) (Lay_X4_29 (f0.ext EB)).1 ?_
  refine x_iconst HE dX4_layHonest_59 (by decide) ?_
  refine x_bipush HE dX4_layHonest_60 (by decide) ?_
  refine x_callS HE dX4_layHonest_62 rfl (fun l => k_X4_copy  l hw) (As := [rV (x0 + 5), iV 0, rV (x0 + 11), iV 0, iV 108]) (rest := []) rfl (lw_S q2113 q2114 q129 q2115) hy_X4_copy.2 rfl rfl (Nat.le_of_ble_eq_true rfl) (Nat.le_of_ble_eq_true rfl) (Nat.le_of_ble_eq_true rfl) (kkV (fun m62 E62 hw => ?_))
  have hw := hw E62
  refine x_aload_n HE 0 dX4_layHonest_65 rfl rfl ?_
  refine x_aload_n HE 0 dX4_layHonest_66 rfl rfl ?_
  refine x_gR HE dX4_layHonest_67 fd_X4_17 q1854 (Or.inl rfl) (Lay_X4.tag (f0.ext (EB.tr E62))) (Lay_X4_17 (f0.ext (EB.tr E62))).1 ?_
  refine x_callV HE dX4_layHonest_70 rfl (fun l => k_X4_layFirst (f0.ext (EB.tr E62)) ⟨(Lay_X4_17 (f0.ext (EB.tr E62))).2.1, (Lay_X4_17 (f0.ext (EB.tr E62))).2.2⟩ l hw) (As := [rV (x0 + 5)]) (rest := []) rfl xc10 (Lay_X4.tag (f0.ext (EB.tr E62))) (lw_V q2120 q2122 qs81 q129 q2123) hy_X4_layFirst rfl rfl (Nat.le_of_ble_eq_true rfl) (Nat.le_of_ble_eq_true rfl) (Nat.le_of_ble_eq_true rfl) (kkV (fun m70 E70 hw => ?_))
  have hw := hw E70
  refine x_aload_n HE 0 dX4_layHonest_73 rfl rfl ?_
  refine x_callV HE dX4_layHonest_74 rfl (fun l => k_X4_evening (f0.ext (EB.tr (E62.tr E70))) l hw) (As := []) (rest := []) rfl xc10 (Lay_X4.tag (f0.ext (EB.tr (E62.tr E70)))) (lw_V q2226 q2228 qs95 q129 q2229) hy_X4_evening rfl rfl (Nat.le_of_ble_eq_true rfl) (Nat.le_of_ble_eq_true rfl) (Nat.le_of_ble_eq_true rfl) (kkV (fun m74 E74 hw => ?_))
  have hw := hw E74
  refine x_aload_n HE 0 dX4_layHonest_77 rfl rfl ?_
  refine x_gR HE dX4_layHonest_78 fd_X4_29 q1866 (Or.inl rfl) (Lay_X4.tag (f0.ext (EB.tr (E62.tr (E70.tr E74))))) (Lay_X4_29 (f0.ext (EB.tr (E62.tr (E70.tr E74))))).1 ?_
  refine x_iconst HE dX4_layHonest_81 (by decide) ?_
  refine x_aload_n HE 0 dX4_layHonest_82 rfl rfl ?_
  refine x_gR HE dX4_layHonest_83 fd_X4_17 q1854 (Or.inl rfl) (Lay_X4.tag (f0.ext (EB.tr (E62.tr (E70.tr E74))))) (Lay_X4_17 (f0.ext (EB.tr (E62.tr (E70.tr E74))))).1 ?_
  refine x_iconst HE dX4_layHonest_86 (by decide) ?_
  refine x_bipush HE dX4_layHonest_87 (by decide) ?_
  refine x_callS HE dX4_layHonest_89 rfl (fun l => k_X4_copy  l hw) (As := [rV (x0 + 11), iV 0, rV (x0 + 5), iV 0, iV 108]) (rest := []) rfl (lw_S q2113 q2114 q129 q2115) hy_X4_copy.2 rfl rfl (Nat.le_of_ble_eq_true rfl) (Nat.le_of_ble_eq_true rfl) (Nat.le_of_ble_eq_true rfl) (kkV (fun m89 E89 hw => ?_))
  have hw := hw E89
  exact x_vret HE hr dX4_layHonest_92 hw
def g_X4_layHonest_b41 (x0 x1 : Int) (Q : Hp → Prop) (K16 : Int → Hp → Prop) (l2 s0 s1 s2 : Int) (h : Hp) : Prop :=
  (Lay_X4 h s0) ∧ (g_X4_beOf s0 s1 s2 (fun m41 => Ext h m41 → ((i32 (l2 + 1)) ∧ (∀ y44 : Int, y44 = l2 + 1 → (K16 y44 m41)))) h)
theorem w_X4_layHonest_41 {G : GT} {X : ET} {h0 : Hp} {x0 x1 : Int} (HE : XE G X cX4_layHonest 3 RX4 6 146 h0) (hr : XR X none) (f0 : Lay_X4 h0 x0) {Q : Hp → Prop} {K16 : Int → Hp → Prop} (hK16 : ∀ (l2 : Int) (h : Hp), K16 l2 h → Wx G X h0 (QV Q) h 16 [some (rV x0), some (iV x1), some (iV l2)] []) {l2 s0 s1 s2 : Int} {h : Hp} (hw : g_X4_layHonest_b41 x0 x1 Q K16 l2 s0 s1 s2 h) : Wx G X h0 (QV Q) h 41 [some (rV x0), some (iV x1), some (iV l2)] [iV s2, iV s1, rV s0] := by
  refine Wx.start (fun EB => ?_)
  unfold g_X4_layHonest_b41 at hw
  obtain ⟨u41_0, hw⟩ := hw
  refine x_callV HE dX4_layHonest_41 rfl (fun l => k_X4_beOf u41_0 l hw) (As := [iV s1, iV s2]) (rest := []) rfl xc10 (Lay_X4.tag u41_0) (lw_V q2344 q2346 qs108 q129 q2347) hy_X4_beOf rfl rfl (Nat.le_of_ble_eq_true rfl) (Nat.le_of_ble_eq_true rfl) (Nat.le_of_ble_eq_true rfl) (kkV (fun m41 E41 hw => ?_))
  have hw := hw E41
  obtain ⟨v44, hw⟩ := hw
  refine x_iincN HE (fun y44 => [some (rV x0), some (iV x1), some (iV y44)]) dX4_layHonest_44 rfl v44 (Nat.le_of_ble_eq_true rfl) (fun _ => rfl) (fun y44 ey44 => ?_)
  have hw := hw y44 ey44
  refine x_goto HE 16 dX4_layHonest_47 (by decide) ?_
  exact hK16 _ _ hw
def g_X4_layHonest_L16 (x0 x1 : Int) (Q : Hp → Prop) (K16 : Int → Hp → Prop) (l2 : Int) (h : Hp) : Prop :=
  (((hA h (x0 + 3) 5) ≤ l2) → (g_X4_layHonest_b50 x0 x1 Q h)) ∧ ((l2 < (hA h (x0 + 3) 5)) → (g_X4_hasBit x1 l2 (fun r30 m30 => Ext h m30 → (((r30 = 0) → (g_X4_layHonest_b41 x0 x1 Q K16 l2 x0 l2 0 m30)) ∧ ((r30 ≠ 0) → (g_X4_layHonest_b41 x0 x1 Q K16 l2 x0 l2 1 m30)))) h))
theorem w_X4_layHonest_16 {G : GT} {X : ET} {h0 : Hp} {x0 x1 : Int} (HE : XE G X cX4_layHonest 3 RX4 6 146 h0) (hr : XR X none) (f0 : Lay_X4 h0 x0) {Q : Hp → Prop} {K16 : Int → Hp → Prop} (hK16 : ∀ (l2 : Int) (h : Hp), K16 l2 h → Wx G X h0 (QV Q) h 16 [some (rV x0), some (iV x1), some (iV l2)] []) {l2 : Int} {h : Hp} (hw : g_X4_layHonest_L16 x0 x1 Q K16 l2 h) : Wx G X h0 (QV Q) h 16 [some (rV x0), some (iV x1), some (iV l2)] [] := by
  refine Wx.start (fun EB => ?_)
  unfold g_X4_layHonest_L16 at hw
  refine x_iload_n HE 2 dX4_layHonest_16 rfl rfl ?_
  refine x_aload_n HE 0 dX4_layHonest_17 rfl rfl ?_
  refine x_gR HE dX4_layHonest_18 fd_X4_15 q1852 (Or.inl rfl) (Lay_X4.tag (f0.ext EB)) (Lay_X4_15 (f0.ext EB)).1 ?_
  refine x_iconst HE dX4_layHonest_21 (by decide) ?_
  refine x_iald HE dX4_layHonest_22 (t := 1) (by decide) ((Lay_X4_15 (f0.ext EB)).2.1) (ix_of ((Lay_X4_15 (f0.ext EB)).2.2) (by decide)) rfl ?_
  refine x_ic_ge HE 50 dX4_layHonest_23 (by decide) (fun c23 => ?_) (fun c23 => ?_)
  · have hw := hw.1 c23
    refine Wx.mask [true, true, false] (lo2 := [some (rV x0), some (iV x1), none]) rfl ?_
    exact w_X4_layHonest_50 HE hr f0 hw
  · have hw := hw.2 c23
    refine x_aload_n HE 0 dX4_layHonest_26 rfl rfl ?_
    refine x_iload_n HE 2 dX4_layHonest_27 rfl rfl ?_
    refine x_iload_n HE 1 dX4_layHonest_28 rfl rfl ?_
    refine x_iload_n HE 2 dX4_layHonest_29 rfl rfl ?_
    refine x_callS HE dX4_layHonest_30 rfl (fun l => k_X4_hasBit  l hw) (As := [iV x1, iV l2]) (rest := [iV l2, rV x0]) rfl (lw_S q2278 q2279 q129 q2280) hy_X4_hasBit.2 rfl rfl (Nat.le_of_ble_eq_true rfl) (Nat.le_of_ble_eq_true rfl) (Nat.le_of_ble_eq_true rfl) (kkI (fun r30 m30 E30 hw => ?_))
    have hw := hw E30
    refine x_if_eq HE 40 dX4_layHonest_33 (by decide) (fun c33 => ?_) (fun c33 => ?_)
    · have hw := hw.1 c33
      refine x_iconst HE dX4_layHonest_40 (by decide) ?_
      exact w_X4_layHonest_41 HE hr f0 hK16 hw
    · have hw := hw.2 c33
      refine x_iconst HE dX4_layHonest_36 (by decide) ?_
      refine x_goto HE 41 dX4_layHonest_37 (by decide) ?_
      exact w_X4_layHonest_41 HE hr f0 hK16 hw
theorem wl_X4_layHonest_16 {G : GT} {X : ET} {h0 : Hp} {x0 x1 : Int} (HE : XE G X cX4_layHonest 3 RX4 6 146 h0) (hr : XR X none) (f0 : Lay_X4 h0 x0) {Q : Hp → Prop} {l2 : Int} {h : Hp} (hw : Lp1 (g_X4_layHonest_L16 x0 x1 Q) l2 h) : Wx G X h0 (QV Q) h 16 [some (rV x0), some (iV x1), some (iV l2)] [] := by
  obtain ⟨n, hw⟩ := hw
  induction n generalizing l2 h with
  | zero => exact hw.elim
  | succ n ih => exact w_X4_layHonest_16 HE hr f0 (fun _ _ hk => ih hk) hw
def g_X4_layHonest (x0 x1 : Int) (Q : Hp → Prop) (h : Hp) : Prop :=
  g_X4_asTold x0 (fun m1 => Ext h m1 → (∀ m11 : Hp, m11 = setF m1 x0 26 (hA m1 (x0 + 3) 2) → (Lp1 (g_X4_layHonest_L16 x0 x1 Q) 0 m11))) h
theorem w_X4_layHonest_0 {G : GT} {X : ET} {h0 : Hp} {x0 x1 : Int} (HE : XE G X cX4_layHonest 3 RX4 6 146 h0) (hr : XR X none) (f0 : Lay_X4 h0 x0) {Q : Hp → Prop} {h : Hp} (hw : g_X4_layHonest x0 x1 Q h) : Wx G X h0 (QV Q) h 0 [some (rV x0), some (iV x1), none] [] := by
  refine Wx.start (fun EB => ?_)
  unfold g_X4_layHonest at hw
  refine x_aload_n HE 0 dX4_layHonest_0 rfl rfl ?_
  refine x_callV HE dX4_layHonest_1 rfl (fun l => k_X4_asTold (f0.ext EB) l hw) (As := []) (rest := []) rfl xc10 (Lay_X4.tag (f0.ext EB)) (lw_V q2116 q2118 qs80 q129 q2119) hy_X4_asTold rfl rfl (Nat.le_of_ble_eq_true rfl) (Nat.le_of_ble_eq_true rfl) (Nat.le_of_ble_eq_true rfl) (kkV (fun m1 E1 hw => ?_))
  have hw := hw E1
  refine x_aload_n HE 0 dX4_layHonest_4 rfl rfl ?_
  refine x_aload_n HE 0 dX4_layHonest_5 rfl rfl ?_
  refine x_gR HE dX4_layHonest_6 fd_X4_15 q1852 (Or.inl rfl) (Lay_X4.tag (f0.ext (EB.tr E1))) (Lay_X4_15 (f0.ext (EB.tr E1))).1 ?_
  refine x_iconst HE dX4_layHonest_9 (by decide) ?_
  refine x_iald HE dX4_layHonest_10 (t := 1) (by decide) ((Lay_X4_15 (f0.ext (EB.tr E1))).2.1) (ix_of ((Lay_X4_15 (f0.ext (EB.tr E1))).2.2) (by decide)) rfl ?_
  refine x_pI HE dX4_layHonest_11 fd_X4_26 q1863 (Or.inl rfl) (Or.inl rfl) (nf_int _) (Lay_X4.tag (f0.ext (EB.tr E1))) (nro (by decide)) (Or.inl nf_X4_26) (fun m11 em11 E11 => ?_)
  have hw := hw m11 em11
  refine x_iconst HE dX4_layHonest_14 (by decide) ?_
  refine x_istore_n HE 2 (lo' := [some (rV x0), some (iV x1), some (iV 0)]) dX4_layHonest_15 rfl (Nat.le_of_ble_eq_true rfl) rfl ?_
  exact wl_X4_layHonest_16 HE hr f0 hw
theorem k_X4_layHonest {G : GT} {x0 x1 : Int} {Q : Hp → Prop} {h : Hp} (f0 : Lay_X4 h x0) (l : Launch) (hw : g_X4_layHonest x0 x1 Q h) : XM G l yX4_layHonest cX4_layHonest 3 none 6 146 [rV x0, iV x1] (QV Q) h :=
  XM.of (by decide) (Nat.le_of_ble_eq_true rfl) (fun X HE hr hn => w_X4_layHonest_0 HE hr f0 hw)
def g_X4_honesty_b73 (x0 x1 x2 : Int) (Q : Int → Hp → Prop) (l4 : Int) (h : Hp) : Prop :=
  Q l4 h
theorem w_X4_honesty_73 {G : GT} {X : ET} {h0 : Hp} {x0 x1 x2 : Int} (HE : XE G X cX4_honesty 6 RX4 7 168 h0) (hr : XR X (some .int)) (f0 : Lay_X4 h0 x0) {Q : Int → Hp → Prop} {l4 : Int} {h : Hp} (hw : g_X4_honesty_b73 x0 x1 x2 Q l4 h) : Wx G X h0 (QI Q) h 73 [some (rV x0), some (iV x1), some (iV x2), none, some (iV l4), none] [] := by
  refine Wx.start (fun EB => ?_)
  unfold g_X4_honesty_b73 at hw
  refine x_iload HE dX4_honesty_73 rfl ?_
  exact x_iret HE hr dX4_honesty_75 hw
def g_X4_honesty_b64 (x0 x1 x2 : Int) (Q : Int → Hp → Prop) (K31 : Int → Int → Hp → Prop) (l5 s0 s1 : Int) (h : Hp) : Prop :=
  (i32 (s0 + s1)) ∧ (∀ y65 : Int, y65 = (s0 + s1) → ((i32 (l5 + 1)) ∧ (∀ y67 : Int, y67 = l5 + 1 → (K31 y65 y67 h))))
theorem w_X4_honesty_64 {G : GT} {X : ET} {h0 : Hp} {x0 x1 x2 : Int} (HE : XE G X cX4_honesty 6 RX4 7 168 h0) (hr : XR X (some .int)) (f0 : Lay_X4 h0 x0) {Q : Int → Hp → Prop} {K31 : Int → Int → Hp → Prop} (hK31 : ∀ (l4 l5 : Int) (h : Hp), K31 l4 l5 h → Wx G X h0 (QI Q) h 31 [some (rV x0), some (iV x1), some (iV x2), none, some (iV l4), some (iV l5)] []) {l5 s0 s1 : Int} {h : Hp} (hw : g_X4_honesty_b64 x0 x1 x2 Q K31 l5 s0 s1 h) : Wx G X h0 (QI Q) h 64 [some (rV x0), some (iV x1), some (iV x2), none, none, some (iV l5)] [iV s1, iV s0] := by
  refine Wx.start (fun EB => ?_)
  unfold g_X4_honesty_b64 at hw
  obtain ⟨v64, hw⟩ := hw
  refine x_iadd HE dX4_honesty_64 v64 ?_
  refine x_istoreN HE (fun y65 => [some (rV x0), some (iV x1), some (iV x2), none, some (iV y65), some (iV l5)]) dX4_honesty_65 (Nat.le_of_ble_eq_true rfl) (fun _ => rfl) (fun y65 ey65 => ?_)
  have hw := hw y65 ey65
  obtain ⟨v67, hw⟩ := hw
  refine x_iincN HE (fun y67 => [some (rV x0), some (iV x1), some (iV x2), none, some (iV y65), some (iV y67)]) dX4_honesty_67 rfl v67 (Nat.le_of_ble_eq_true rfl) (fun _ => rfl) (fun y67 ey67 => ?_)
  have hw := hw y67 ey67
  refine x_goto HE 31 dX4_honesty_70 (by decide) ?_
  exact hK31 _ _ _ hw
def g_X4_honesty_L31 (x0 x1 x2 : Int) (Q : Int → Hp → Prop) (K31 : Int → Int → Hp → Prop) (l4 l5 : Int) (h : Hp) : Prop :=
  (((hA h (x0 + 3) 5) ≤ l5) → (g_X4_honesty_b73 x0 x1 x2 Q l4 h)) ∧ ((l5 < (hA h (x0 + 3) 5)) → (g_X4_hasBit x1 l5 (fun r47 m47 => Ext h m47 → (((r47 = x2) → (g_X4_honesty_b64 x0 x1 x2 Q K31 l5 l4 0 m47)) ∧ ((r47 ≠ x2) → (g_X4_waitOf x0 l5 (fun r57 m57 => Ext m47 m57 → (g_X4_honesty_b64 x0 x1 x2 Q K31 l5 l4 r57 m57)) m47)))) h))
theorem w_X4_honesty_31 {G : GT} {X : ET} {h0 : Hp} {x0 x1 x2 : Int} (HE : XE G X cX4_honesty 6 RX4 7 168 h0) (hr : XR X (some .int)) (f0 : Lay_X4 h0 x0) {Q : Int → Hp → Prop} {K31 : Int → Int → Hp → Prop} (hK31 : ∀ (l4 l5 : Int) (h : Hp), K31 l4 l5 h → Wx G X h0 (QI Q) h 31 [some (rV x0), some (iV x1), some (iV x2), none, some (iV l4), some (iV l5)] []) {l4 l5 : Int} {h : Hp} (hw : g_X4_honesty_L31 x0 x1 x2 Q K31 l4 l5 h) : Wx G X h0 (QI Q) h 31 [some (rV x0), some (iV x1), some (iV x2), none, some (iV l4), some (iV l5)] [] := by
  refine Wx.start (fun EB => ?_)
  unfold g_X4_honesty_L31 at hw
  refine x_iload HE dX4_honesty_31 rfl ?_
  refine x_aload_n HE 0 dX4_honesty_33 rfl rfl ?_
  refine x_gR HE dX4_honesty_34 fd_X4_15 q1852 (Or.inl rfl) (Lay_X4.tag (f0.ext EB)) (Lay_X4_15 (f0.ext EB)).1 ?_
  refine x_iconst HE dX4_honesty_37 (by decide) ?_
  refine x_iald HE dX4_honesty_38 (t := 1) (by decide) ((Lay_X4_15 (f0.ext EB)).2.1) (ix_of ((Lay_X4_15 (f0.ext EB)).2.2) (by decide)) rfl ?_
  refine x_ic_ge HE 73 dX4_honesty_39 (by decide) (fun c39 => ?_) (fun c39 => ?_)
  · have hw := hw.1 c39
    refine Wx.mask [true, true, true, true, true, false] (lo2 := [some (rV x0), some (iV x1), some (iV x2), none, some (iV l4), none]) rfl ?_
    exact w_X4_honesty_73 HE hr f0 hw
  · have hw := hw.2 c39
    refine x_iload HE dX4_honesty_42 rfl ?_
    refine x_iload_n HE 1 dX4_honesty_44 rfl rfl ?_
    refine x_iload HE dX4_honesty_45 rfl ?_
    refine x_callS HE dX4_honesty_47 rfl (fun l => k_X4_hasBit  l hw) (As := [iV x1, iV l5]) (rest := [iV l4]) rfl (lw_S q2278 q2279 q129 q2280) hy_X4_hasBit.2 rfl rfl (Nat.le_of_ble_eq_true rfl) (Nat.le_of_ble_eq_true rfl) (Nat.le_of_ble_eq_true rfl) (kkI (fun r47 m47 E47 hw => ?_))
    have hw := hw E47
    refine x_iload_n HE 2 dX4_honesty_50 rfl rfl ?_
    refine x_ic_eq HE 63 dX4_honesty_51 (by decide) (fun c51 => ?_) (fun c51 => ?_)
    · have hw := hw.1 c51
      refine x_iconst HE dX4_honesty_63 (by decide) ?_
      refine Wx.mask [true, true, true, true, false, true] (lo2 := [some (rV x0), some (iV x1), some (iV x2), none, none, some (iV l5)]) rfl ?_
      exact w_X4_honesty_64 HE hr f0 hK31 hw
    · have hw := hw.2 c51
      refine x_aload_n HE 0 dX4_honesty_54 rfl rfl ?_
      refine x_iload HE dX4_honesty_55 rfl ?_
      refine x_callV HE dX4_honesty_57 rfl (fun l => k_X4_waitOf (f0.ext (EB.tr E47)) l hw) (As := [iV l5]) (rest := [iV l4]) rfl xc10 (Lay_X4.tag (f0.ext (EB.tr E47))) (lw_V q2246 q2248 qs99 q129 q2249) hy_X4_waitOf rfl rfl (Nat.le_of_ble_eq_true rfl) (Nat.le_of_ble_eq_true rfl) (Nat.le_of_ble_eq_true rfl) (kkI (fun r57 m57 E57 hw => ?_))
      have hw := hw E57
      refine x_goto HE 64 dX4_honesty_60 (by decide) ?_
      refine Wx.mask [true, true, true, true, false, true] (lo2 := [some (rV x0), some (iV x1), some (iV x2), none, none, some (iV l5)]) rfl ?_
      exact w_X4_honesty_64 HE hr f0 hK31 hw
theorem wl_X4_honesty_31 {G : GT} {X : ET} {h0 : Hp} {x0 x1 x2 : Int} (HE : XE G X cX4_honesty 6 RX4 7 168 h0) (hr : XR X (some .int)) (f0 : Lay_X4 h0 x0) {Q : Int → Hp → Prop} {l4 l5 : Int} {h : Hp} (hw : Lp2 (g_X4_honesty_L31 x0 x1 x2 Q) l4 l5 h) : Wx G X h0 (QI Q) h 31 [some (rV x0), some (iV x1), some (iV x2), none, some (iV l4), some (iV l5)] [] := by
  obtain ⟨n, hw⟩ := hw
  induction n generalizing l4 l5 h with
  | zero => exact hw.elim
  | succ n ih => exact w_X4_honesty_31 HE hr f0 (fun _ _ _ hk => ih hk) hw
def g_X4_honesty (x0 x1 x2 : Int) (Q : Int → Hp → Prop) (h : Hp) : Prop :=
  g_X4_good x0 (fun m1 => Ext h m1 → (g_X4_setWhy x0 x1 (fun r6 m6 => Ext m1 m6 → (((r6 = 0) → (g_X4_layHonest x0 x1 (fun m22 => Ext m6 m22 → (Lp2 (g_X4_honesty_L31 x0 x1 x2 Q) 0 0 m22)) m6)) ∧ ((r6 ≠ 0) → (g_X4_no x0 r6 (fun r16 m16 => Ext m6 m16 → (Q r16 m16)) m6)))) m1)) h
theorem w_X4_honesty_0 {G : GT} {X : ET} {h0 : Hp} {x0 x1 x2 : Int} (HE : XE G X cX4_honesty 6 RX4 7 168 h0) (hr : XR X (some .int)) (f0 : Lay_X4 h0 x0) {Q : Int → Hp → Prop} {h : Hp} (hw : g_X4_honesty x0 x1 x2 Q h) : Wx G X h0 (QI Q) h 0 [some (rV x0), some (iV x1), some (iV x2), none, none, none] [] := by
  refine Wx.start (fun EB => ?_)
  unfold g_X4_honesty at hw
  refine x_aload_n HE 0 dX4_honesty_0 rfl rfl ?_
  refine x_callV HE dX4_honesty_1 rfl (fun l => k_X4_good (f0.ext EB) l hw) (As := []) (rest := []) rfl xc10 (Lay_X4.tag (f0.ext EB)) (lw_V q1955 q1957 qs55 q129 q1958) hy_X4_good rfl rfl (Nat.le_of_ble_eq_true rfl) (Nat.le_of_ble_eq_true rfl) (Nat.le_of_ble_eq_true rfl) (kkV (fun m1 E1 hw => ?_))
  have hw := hw E1
  refine x_aload_n HE 0 dX4_honesty_4 rfl rfl ?_
  refine x_iload_n HE 1 dX4_honesty_5 rfl rfl ?_
  refine x_callV HE dX4_honesty_6 rfl (fun l => k_X4_setWhy (f0.ext (EB.tr E1)) l hw) (As := [iV x1]) (rest := []) rfl xc10 (Lay_X4.tag (f0.ext (EB.tr E1))) (lw_V q2376 q2378 qs111 q129 q2379) hy_X4_setWhy rfl rfl (Nat.le_of_ble_eq_true rfl) (Nat.le_of_ble_eq_true rfl) (Nat.le_of_ble_eq_true rfl) (kkI (fun r6 m6 E6 hw => ?_))
  have hw := hw E6
  refine x_istore_n HE 3 (lo' := [some (rV x0), some (iV x1), some (iV x2), some (iV r6), none, none]) dX4_honesty_9 rfl (Nat.le_of_ble_eq_true rfl) rfl ?_
  refine x_iload_n HE 3 dX4_honesty_10 rfl rfl ?_
  refine x_if_eq HE 20 dX4_honesty_11 (by decide) (fun c11 => ?_) (fun c11 => ?_)
  · have hw := hw.1 c11
    refine x_aload_n HE 0 dX4_honesty_20 rfl rfl ?_
    refine x_iload_n HE 1 dX4_honesty_21 rfl rfl ?_
    refine x_callV HE dX4_honesty_22 rfl (fun l => k_X4_layHonest (f0.ext (EB.tr (E1.tr E6))) l hw) (As := [iV x1]) (rest := []) rfl xc10 (Lay_X4.tag (f0.ext (EB.tr (E1.tr E6)))) (lw_V q2384 q2386 qs113 q129 q2387) hy_X4_layHonest rfl rfl (Nat.le_of_ble_eq_true rfl) (Nat.le_of_ble_eq_true rfl) (Nat.le_of_ble_eq_true rfl) (kkV (fun m22 E22 hw => ?_))
    have hw := hw E22
    refine x_iconst HE dX4_honesty_25 (by decide) ?_
    refine x_istore HE (lo' := [some (rV x0), some (iV x1), some (iV x2), some (iV r6), some (iV 0), none]) dX4_honesty_26 (Nat.le_of_ble_eq_true rfl) rfl ?_
    refine x_iconst HE dX4_honesty_28 (by decide) ?_
    refine x_istore HE (lo' := [some (rV x0), some (iV x1), some (iV x2), some (iV r6), some (iV 0), some (iV 0)]) dX4_honesty_29 (Nat.le_of_ble_eq_true rfl) rfl ?_
    refine Wx.mask [true, true, true, false, true, true] (lo2 := [some (rV x0), some (iV x1), some (iV x2), none, some (iV 0), some (iV 0)]) rfl ?_
    exact wl_X4_honesty_31 HE hr f0 hw
  · have hw := hw.2 c11
    refine x_aload_n HE 0 dX4_honesty_14 rfl rfl ?_
    refine x_iload_n HE 3 dX4_honesty_15 rfl rfl ?_
    refine x_callV HE dX4_honesty_16 rfl (fun l => k_X4_no (f0.ext (EB.tr (E1.tr E6))) l hw) (As := [iV r6]) (rest := []) rfl xc10 (Lay_X4.tag (f0.ext (EB.tr (E1.tr E6)))) (lw_V q1962 q1964 qs56 q129 q1965) hy_X4_no rfl rfl (Nat.le_of_ble_eq_true rfl) (Nat.le_of_ble_eq_true rfl) (Nat.le_of_ble_eq_true rfl) (kkI (fun r16 m16 E16 hw => ?_))
    have hw := hw E16
    exact x_iret HE hr dX4_honesty_19 hw
theorem k_X4_honesty {G : GT} {x0 x1 x2 : Int} {Q : Int → Hp → Prop} {h : Hp} (f0 : Lay_X4 h x0) (l : Launch) (hw : g_X4_honesty x0 x1 x2 Q h) : XM G l yX4_honesty cX4_honesty 6 (some .int) 7 168 [rV x0, iV x1, iV x2] (QI Q) h :=
  XM.of (by decide) (Nat.le_of_ble_eq_true rfl) (fun X HE hr hn => w_X4_honesty_0 HE hr f0 hw)
def g_X4_isAtRest_b77 (x0 x1 : Int) (Q : Int → Hp → Prop) (h : Hp) : Prop :=
  Q 1 h
theorem w_X4_isAtRest_77 {G : GT} {X : ET} {h0 : Hp} {x0 x1 : Int} (HE : XE G X cX4_isAtRest 3 RX4 7 168 h0) (hr : XR X (some .boolean)) (f0 : Lay_X4 h0 x0) {Q : Int → Hp → Prop} {h : Hp} (hw : g_X4_isAtRest_b77 x0 x1 Q  h) : Wx G X h0 (QI Q) h 77 [some (rV x0), some (iV x1), none] [] := by
  refine Wx.start (fun EB => ?_)
  unfold g_X4_isAtRest_b77 at hw
  refine x_iconst HE dX4_isAtRest_77 (by decide) ?_
  exact x_zret HE hr dX4_isAtRest_78 (by decide) hw
def g_X4_isAtRest_b69 (x0 x1 : Int) (Q : Int → Hp → Prop) (h : Hp) : Prop :=
  Q 0 h
theorem w_X4_isAtRest_69 {G : GT} {X : ET} {h0 : Hp} {x0 x1 : Int} (HE : XE G X cX4_isAtRest 3 RX4 7 168 h0) (hr : XR X (some .boolean)) (f0 : Lay_X4 h0 x0) {Q : Int → Hp → Prop} {h : Hp} (hw : g_X4_isAtRest_b69 x0 x1 Q  h) : Wx G X h0 (QI Q) h 69 [some (rV x0), some (iV x1), none] [] := by
  refine Wx.start (fun EB => ?_)
  unfold g_X4_isAtRest_b69 at hw
  refine x_iconst HE dX4_isAtRest_69 (by decide) ?_
  exact x_zret HE hr dX4_isAtRest_70 (by decide) hw
def g_X4_isAtRest_L36 (x0 x1 : Int) (Q : Int → Hp → Prop) (K36 : Int → Hp → Prop) (l2 : Int) (h : Hp) : Prop :=
  (((hA h (x0 + 3) 5) ≤ l2) → (g_X4_isAtRest_b77 x0 x1 Q h)) ∧ ((l2 < (hA h (x0 + 3) 5)) → (g_X4_layHonest x0 (bXor x1 (bShl 1 l2)) (fun m52 => Ext h m52 → (g_X4_waitOf x0 l2 (fun r57 m57 => Ext m52 m57 → (((0 : Int) ≤ l2 ∧ l2 < 10) ∧ ((((hA m57 (x0 + 12) l2) ≤ r57) → ((i32 (l2 + 1)) ∧ (∀ y71 : Int, y71 = l2 + 1 → (K36 y71 m57)))) ∧ ((r57 < (hA m57 (x0 + 12) l2)) → (g_X4_isAtRest_b69 x0 x1 Q m57))))) m52)) h))
theorem w_X4_isAtRest_36 {G : GT} {X : ET} {h0 : Hp} {x0 x1 : Int} (HE : XE G X cX4_isAtRest 3 RX4 7 168 h0) (hr : XR X (some .boolean)) (f0 : Lay_X4 h0 x0) {Q : Int → Hp → Prop} {K36 : Int → Hp → Prop} (hK36 : ∀ (l2 : Int) (h : Hp), K36 l2 h → Wx G X h0 (QI Q) h 36 [some (rV x0), some (iV x1), some (iV l2)] []) {l2 : Int} {h : Hp} (hw : g_X4_isAtRest_L36 x0 x1 Q K36 l2 h) : Wx G X h0 (QI Q) h 36 [some (rV x0), some (iV x1), some (iV l2)] [] := by
  refine Wx.start (fun EB => ?_)
  unfold g_X4_isAtRest_L36 at hw
  refine x_iload_n HE 2 dX4_isAtRest_36 rfl rfl ?_
  refine x_aload_n HE 0 dX4_isAtRest_37 rfl rfl ?_
  refine x_gR HE dX4_isAtRest_38 fd_X4_15 q1852 (Or.inl rfl) (Lay_X4.tag (f0.ext EB)) (Lay_X4_15 (f0.ext EB)).1 ?_
  refine x_iconst HE dX4_isAtRest_41 (by decide) ?_
  refine x_iald HE dX4_isAtRest_42 (t := 1) (by decide) ((Lay_X4_15 (f0.ext EB)).2.1) (ix_of ((Lay_X4_15 (f0.ext EB)).2.2) (by decide)) rfl ?_
  refine x_ic_ge HE 77 dX4_isAtRest_43 (by decide) (fun c43 => ?_) (fun c43 => ?_)
  · have hw := hw.1 c43
    refine Wx.mask [true, true, false] (lo2 := [some (rV x0), some (iV x1), none]) rfl ?_
    exact w_X4_isAtRest_77 HE hr f0 hw
  · have hw := hw.2 c43
    refine x_aload_n HE 0 dX4_isAtRest_46 rfl rfl ?_
    refine x_iload_n HE 1 dX4_isAtRest_47 rfl rfl ?_
    refine x_iconst HE dX4_isAtRest_48 (by decide) ?_
    refine x_iload_n HE 2 dX4_isAtRest_49 rfl rfl ?_
    refine x_ishl HE dX4_isAtRest_50 ?_
    refine x_ixor HE dX4_isAtRest_51 ?_
    refine x_callV HE dX4_isAtRest_52 rfl (fun l => k_X4_layHonest (f0.ext EB) l hw) (As := [iV (bXor x1 (bShl 1 l2))]) (rest := []) rfl xc10 (Lay_X4.tag (f0.ext EB)) (lw_V q2384 q2386 qs113 q129 q2387) hy_X4_layHonest rfl rfl (Nat.le_of_ble_eq_true rfl) (Nat.le_of_ble_eq_true rfl) (Nat.le_of_ble_eq_true rfl) (kkV (fun m52 E52 hw => ?_))
    have hw := hw E52
    refine x_aload_n HE 0 dX4_isAtRest_55 rfl rfl ?_
    refine x_iload_n HE 2 dX4_isAtRest_56 rfl rfl ?_
    refine x_callV HE dX4_isAtRest_57 rfl (fun l => k_X4_waitOf (f0.ext (EB.tr E52)) l hw) (As := [iV l2]) (rest := []) rfl xc10 (Lay_X4.tag (f0.ext (EB.tr E52))) (lw_V q2246 q2248 qs99 q129 q2249) hy_X4_waitOf rfl rfl (Nat.le_of_ble_eq_true rfl) (Nat.le_of_ble_eq_true rfl) (Nat.le_of_ble_eq_true rfl) (kkI (fun r57 m57 E57 hw => ?_))
    have hw := hw E57
    refine x_aload_n HE 0 dX4_isAtRest_60 rfl rfl ?_
    refine x_gR HE dX4_isAtRest_61 fd_X4_30 q1867 (Or.inl rfl) (Lay_X4.tag (f0.ext (EB.tr (E52.tr E57)))) (Lay_X4_30 (f0.ext (EB.tr (E52.tr E57)))).1 ?_
    refine x_iload_n HE 2 dX4_isAtRest_64 rfl rfl ?_
    obtain ⟨i65, hw⟩ := hw
    refine x_iald HE dX4_isAtRest_65 (t := 1) (by decide) ((Lay_X4_30 (f0.ext (EB.tr (E52.tr E57)))).2.1) (ix_of ((Lay_X4_30 (f0.ext (EB.tr (E52.tr E57)))).2.2) i65) rfl ?_
    refine x_ic_ge HE 71 dX4_isAtRest_66 (by decide) (fun c66 => ?_) (fun c66 => ?_)
    · have hw := hw.1 c66
      obtain ⟨v71, hw⟩ := hw
      refine x_iincN HE (fun y71 => [some (rV x0), some (iV x1), some (iV y71)]) dX4_isAtRest_71 rfl v71 (Nat.le_of_ble_eq_true rfl) (fun _ => rfl) (fun y71 ey71 => ?_)
      have hw := hw y71 ey71
      refine x_goto HE 36 dX4_isAtRest_74 (by decide) ?_
      exact hK36 _ _ hw
    · have hw := hw.2 c66
      refine Wx.mask [true, true, false] (lo2 := [some (rV x0), some (iV x1), none]) rfl ?_
      exact w_X4_isAtRest_69 HE hr f0 hw
theorem wl_X4_isAtRest_36 {G : GT} {X : ET} {h0 : Hp} {x0 x1 : Int} (HE : XE G X cX4_isAtRest 3 RX4 7 168 h0) (hr : XR X (some .boolean)) (f0 : Lay_X4 h0 x0) {Q : Int → Hp → Prop} {l2 : Int} {h : Hp} (hw : Lp1 (g_X4_isAtRest_L36 x0 x1 Q) l2 h) : Wx G X h0 (QI Q) h 36 [some (rV x0), some (iV x1), some (iV l2)] [] := by
  obtain ⟨n, hw⟩ := hw
  induction n generalizing l2 h with
  | zero => exact hw.elim
  | succ n ih => exact w_X4_isAtRest_36 HE hr f0 (fun _ _ hk => ih hk) hw
def g_X4_isAtRest_b34 (x0 x1 : Int) (Q : Int → Hp → Prop) (h : Hp) : Prop :=
  Lp1 (g_X4_isAtRest_L36 x0 x1 Q) 0 h
theorem w_X4_isAtRest_34 {G : GT} {X : ET} {h0 : Hp} {x0 x1 : Int} (HE : XE G X cX4_isAtRest 3 RX4 7 168 h0) (hr : XR X (some .boolean)) (f0 : Lay_X4 h0 x0) {Q : Int → Hp → Prop} {h : Hp} (hw : g_X4_isAtRest_b34 x0 x1 Q  h) : Wx G X h0 (QI Q) h 34 [some (rV x0), some (iV x1), none] [] := by
  refine Wx.start (fun EB => ?_)
  unfold g_X4_isAtRest_b34 at hw
  refine x_iconst HE dX4_isAtRest_34 (by decide) ?_
  refine x_istore_n HE 2 (lo' := [some (rV x0), some (iV x1), some (iV 0)]) dX4_isAtRest_35 rfl (Nat.le_of_ble_eq_true rfl) rfl ?_
  exact wl_X4_isAtRest_36 HE hr f0 hw
def g_X4_isAtRest_L7 (x0 x1 : Int) (Q : Int → Hp → Prop) (K7 : Int → Hp → Prop) (l2 : Int) (h : Hp) : Prop :=
  (((hA h (x0 + 3) 5) ≤ l2) → (g_X4_isAtRest_b34 x0 x1 Q h)) ∧ ((l2 < (hA h (x0 + 3) 5)) → (g_X4_waitOf x0 l2 (fun r24 m24 => Ext h m24 → (((0 : Int) ≤ l2 ∧ l2 < 10) ∧ (∀ m27 : Hp, m27 = setA m24 (x0 + 12) l2 r24 → ((i32 (l2 + 1)) ∧ (∀ y28 : Int, y28 = l2 + 1 → (K7 y28 m27)))))) h))
theorem w_X4_isAtRest_7 {G : GT} {X : ET} {h0 : Hp} {x0 x1 : Int} (HE : XE G X cX4_isAtRest 3 RX4 7 168 h0) (hr : XR X (some .boolean)) (f0 : Lay_X4 h0 x0) {Q : Int → Hp → Prop} {K7 : Int → Hp → Prop} (hK7 : ∀ (l2 : Int) (h : Hp), K7 l2 h → Wx G X h0 (QI Q) h 7 [some (rV x0), some (iV x1), some (iV l2)] []) {l2 : Int} {h : Hp} (hw : g_X4_isAtRest_L7 x0 x1 Q K7 l2 h) : Wx G X h0 (QI Q) h 7 [some (rV x0), some (iV x1), some (iV l2)] [] := by
  refine Wx.start (fun EB => ?_)
  unfold g_X4_isAtRest_L7 at hw
  refine x_iload_n HE 2 dX4_isAtRest_7 rfl rfl ?_
  refine x_aload_n HE 0 dX4_isAtRest_8 rfl rfl ?_
  refine x_gR HE dX4_isAtRest_9 fd_X4_15 q1852 (Or.inl rfl) (Lay_X4.tag (f0.ext EB)) (Lay_X4_15 (f0.ext EB)).1 ?_
  refine x_iconst HE dX4_isAtRest_12 (by decide) ?_
  refine x_iald HE dX4_isAtRest_13 (t := 1) (by decide) ((Lay_X4_15 (f0.ext EB)).2.1) (ix_of ((Lay_X4_15 (f0.ext EB)).2.2) (by decide)) rfl ?_
  refine x_ic_ge HE 34 dX4_isAtRest_14 (by decide) (fun c14 => ?_) (fun c14 => ?_)
  · have hw := hw.1 c14
    refine Wx.mask [true, true, false] (lo2 := [some (rV x0), some (iV x1), none]) rfl ?_
    exact w_X4_isAtRest_34 HE hr f0 hw
  · have hw := hw.2 c14
    refine x_aload_n HE 0 dX4_isAtRest_17 rfl rfl ?_
    refine x_gR HE dX4_isAtRest_18 fd_X4_30 q1867 (Or.inl rfl) (Lay_X4.tag (f0.ext EB)) (Lay_X4_30 (f0.ext EB)).1 ?_
    refine x_iload_n HE 2 dX4_isAtRest_21 rfl rfl ?_
    refine x_aload_n HE 0 dX4_isAtRest_22 rfl rfl ?_
    refine x_iload_n HE 2 dX4_isAtRest_23 rfl rfl ?_
    refine x_callV HE dX4_isAtRest_24 rfl (fun l => k_X4_waitOf (f0.ext EB) l hw) (As := [iV l2]) (rest := [iV l2, rV (x0 + 12)]) rfl xc10 (Lay_X4.tag (f0.ext EB)) (lw_V q2246 q2248 qs99 q129 q2249) hy_X4_waitOf rfl rfl (Nat.le_of_ble_eq_true rfl) (Nat.le_of_ble_eq_true rfl) (Nat.le_of_ble_eq_true rfl) (kkI (fun r24 m24 E24 hw => ?_))
    have hw := hw E24
    obtain ⟨i27, hw⟩ := hw
    refine x_iast HE dX4_isAtRest_27 ((Lay_X4_30 (f0.ext (EB.tr E24))).2.1) (ix_of ((Lay_X4_30 (f0.ext (EB.tr E24))).2.2) i27) (fun m27 em27 E27 => ?_)
    have hw := hw m27 em27
    obtain ⟨v28, hw⟩ := hw
    refine x_iincN HE (fun y28 => [some (rV x0), some (iV x1), some (iV y28)]) dX4_isAtRest_28 rfl v28 (Nat.le_of_ble_eq_true rfl) (fun _ => rfl) (fun y28 ey28 => ?_)
    have hw := hw y28 ey28
    refine x_goto HE 7 dX4_isAtRest_31 (by decide) ?_
    exact hK7 _ _ hw
theorem wl_X4_isAtRest_7 {G : GT} {X : ET} {h0 : Hp} {x0 x1 : Int} (HE : XE G X cX4_isAtRest 3 RX4 7 168 h0) (hr : XR X (some .boolean)) (f0 : Lay_X4 h0 x0) {Q : Int → Hp → Prop} {l2 : Int} {h : Hp} (hw : Lp1 (g_X4_isAtRest_L7 x0 x1 Q) l2 h) : Wx G X h0 (QI Q) h 7 [some (rV x0), some (iV x1), some (iV l2)] [] := by
  obtain ⟨n, hw⟩ := hw
  induction n generalizing l2 h with
  | zero => exact hw.elim
  | succ n ih => exact w_X4_isAtRest_7 HE hr f0 (fun _ _ hk => ih hk) hw
def g_X4_isAtRest (x0 x1 : Int) (Q : Int → Hp → Prop) (h : Hp) : Prop :=
  g_X4_layHonest x0 x1 (fun m2 => Ext h m2 → (Lp1 (g_X4_isAtRest_L7 x0 x1 Q) 0 m2)) h
theorem w_X4_isAtRest_0 {G : GT} {X : ET} {h0 : Hp} {x0 x1 : Int} (HE : XE G X cX4_isAtRest 3 RX4 7 168 h0) (hr : XR X (some .boolean)) (f0 : Lay_X4 h0 x0) {Q : Int → Hp → Prop} {h : Hp} (hw : g_X4_isAtRest x0 x1 Q h) : Wx G X h0 (QI Q) h 0 [some (rV x0), some (iV x1), none] [] := by
  refine Wx.start (fun EB => ?_)
  unfold g_X4_isAtRest at hw
  refine x_aload_n HE 0 dX4_isAtRest_0 rfl rfl ?_
  refine x_iload_n HE 1 dX4_isAtRest_1 rfl rfl ?_
  refine x_callV HE dX4_isAtRest_2 rfl (fun l => k_X4_layHonest (f0.ext EB) l hw) (As := [iV x1]) (rest := []) rfl xc10 (Lay_X4.tag (f0.ext EB)) (lw_V q2384 q2386 qs113 q129 q2387) hy_X4_layHonest rfl rfl (Nat.le_of_ble_eq_true rfl) (Nat.le_of_ble_eq_true rfl) (Nat.le_of_ble_eq_true rfl) (kkV (fun m2 E2 hw => ?_))
  have hw := hw E2
  refine x_iconst HE dX4_isAtRest_5 (by decide) ?_
  refine x_istore_n HE 2 (lo' := [some (rV x0), some (iV x1), some (iV 0)]) dX4_isAtRest_6 rfl (Nat.le_of_ble_eq_true rfl) rfl ?_
  exact wl_X4_isAtRest_7 HE hr f0 hw
theorem k_X4_isAtRest {G : GT} {x0 x1 : Int} {Q : Int → Hp → Prop} {h : Hp} (f0 : Lay_X4 h x0) (l : Launch) (hw : g_X4_isAtRest x0 x1 Q h) : XM G l yX4_isAtRest cX4_isAtRest 3 (some .boolean) 7 168 [rV x0, iV x1] (QI Q) h :=
  XM.of (by decide) (Nat.le_of_ble_eq_true rfl) (fun X HE hr hn => w_X4_isAtRest_0 HE hr f0 hw)
def g_X4_rest_b35 (x0 x1 : Int) (Q : Int → Hp → Prop) (s0 : Int) (h : Hp) : Prop :=
  Q s0 h
theorem w_X4_rest_35 {G : GT} {X : ET} {h0 : Hp} {x0 x1 : Int} (HE : XE G X cX4_rest 3 RX4 8 190 h0) (hr : XR X (some .int)) (f0 : Lay_X4 h0 x0) {Q : Int → Hp → Prop} {s0 : Int} {h : Hp} (hw : g_X4_rest_b35 x0 x1 Q s0 h) : Wx G X h0 (QI Q) h 35 [some (rV x0), some (iV x1), none] [iV s0] := by
  refine Wx.start (fun EB => ?_)
  unfold g_X4_rest_b35 at hw
  exact x_iret HE hr dX4_rest_35 hw
def g_X4_rest (x0 x1 : Int) (Q : Int → Hp → Prop) (h : Hp) : Prop :=
  g_X4_good x0 (fun m1 => Ext h m1 → (g_X4_setWhy x0 x1 (fun r6 m6 => Ext m1 m6 → (((r6 = 0) → (g_X4_isAtRest x0 x1 (fun r24 m24 => Ext m6 m24 → (((r24 = 0) → (g_X4_rest_b35 x0 x1 Q 0 m24)) ∧ ((r24 ≠ 0) → (g_X4_rest_b35 x0 x1 Q 1 m24)))) m6)) ∧ ((r6 ≠ 0) → (g_X4_no x0 r6 (fun r16 m16 => Ext m6 m16 → (g_X4_rest_b35 x0 x1 Q r16 m16)) m6)))) m1)) h
theorem w_X4_rest_0 {G : GT} {X : ET} {h0 : Hp} {x0 x1 : Int} (HE : XE G X cX4_rest 3 RX4 8 190 h0) (hr : XR X (some .int)) (f0 : Lay_X4 h0 x0) {Q : Int → Hp → Prop} {h : Hp} (hw : g_X4_rest x0 x1 Q h) : Wx G X h0 (QI Q) h 0 [some (rV x0), some (iV x1), none] [] := by
  refine Wx.start (fun EB => ?_)
  unfold g_X4_rest at hw
  refine x_aload_n HE 0 dX4_rest_0 rfl rfl ?_
  refine x_callV HE dX4_rest_1 rfl (fun l => k_X4_good (f0.ext EB) l hw) (As := []) (rest := []) rfl xc10 (Lay_X4.tag (f0.ext EB)) (lw_V q1955 q1957 qs55 q129 q1958) hy_X4_good rfl rfl (Nat.le_of_ble_eq_true rfl) (Nat.le_of_ble_eq_true rfl) (Nat.le_of_ble_eq_true rfl) (kkV (fun m1 E1 hw => ?_))
  have hw := hw E1
  refine x_aload_n HE 0 dX4_rest_4 rfl rfl ?_
  refine x_iload_n HE 1 dX4_rest_5 rfl rfl ?_
  refine x_callV HE dX4_rest_6 rfl (fun l => k_X4_setWhy (f0.ext (EB.tr E1)) l hw) (As := [iV x1]) (rest := []) rfl xc10 (Lay_X4.tag (f0.ext (EB.tr E1))) (lw_V q2376 q2378 qs111 q129 q2379) hy_X4_setWhy rfl rfl (Nat.le_of_ble_eq_true rfl) (Nat.le_of_ble_eq_true rfl) (Nat.le_of_ble_eq_true rfl) (kkI (fun r6 m6 E6 hw => ?_))
  have hw := hw E6
  refine x_istore_n HE 2 (lo' := [some (rV x0), some (iV x1), some (iV r6)]) dX4_rest_9 rfl (Nat.le_of_ble_eq_true rfl) rfl ?_
  refine x_iload_n HE 2 dX4_rest_10 rfl rfl ?_
  refine x_if_eq HE 22 dX4_rest_11 (by decide) (fun c11 => ?_) (fun c11 => ?_)
  · have hw := hw.1 c11
    refine x_aload_n HE 0 dX4_rest_22 rfl rfl ?_
    refine x_iload_n HE 1 dX4_rest_23 rfl rfl ?_
    refine x_callV HE dX4_rest_24 rfl (fun l => k_X4_isAtRest (f0.ext (EB.tr (E1.tr E6))) l hw) (As := [iV x1]) (rest := []) rfl xc10 (Lay_X4.tag (f0.ext (EB.tr (E1.tr E6)))) (lw_V q2392 q2394 qs114 q129 q2395) hy_X4_isAtRest rfl rfl (Nat.le_of_ble_eq_true rfl) (Nat.le_of_ble_eq_true rfl) (Nat.le_of_ble_eq_true rfl) (kkI (fun r24 m24 E24 hw => ?_))
    have hw := hw E24
    refine x_if_eq HE 34 dX4_rest_27 (by decide) (fun c27 => ?_) (fun c27 => ?_)
    · have hw := hw.1 c27
      refine x_iconst HE dX4_rest_34 (by decide) ?_
      refine Wx.mask [true, true, false] (lo2 := [some (rV x0), some (iV x1), none]) rfl ?_
      exact w_X4_rest_35 HE hr f0 hw
    · have hw := hw.2 c27
      refine x_iconst HE dX4_rest_30 (by decide) ?_
      refine x_goto HE 35 dX4_rest_31 (by decide) ?_
      refine Wx.mask [true, true, false] (lo2 := [some (rV x0), some (iV x1), none]) rfl ?_
      exact w_X4_rest_35 HE hr f0 hw
  · have hw := hw.2 c11
    refine x_aload_n HE 0 dX4_rest_14 rfl rfl ?_
    refine x_iload_n HE 2 dX4_rest_15 rfl rfl ?_
    refine x_callV HE dX4_rest_16 rfl (fun l => k_X4_no (f0.ext (EB.tr (E1.tr E6))) l hw) (As := [iV r6]) (rest := []) rfl xc10 (Lay_X4.tag (f0.ext (EB.tr (E1.tr E6)))) (lw_V q1962 q1964 qs56 q129 q1965) hy_X4_no rfl rfl (Nat.le_of_ble_eq_true rfl) (Nat.le_of_ble_eq_true rfl) (Nat.le_of_ble_eq_true rfl) (kkI (fun r16 m16 E16 hw => ?_))
    have hw := hw E16
    refine x_goto HE 35 dX4_rest_19 (by decide) ?_
    refine Wx.mask [true, true, false] (lo2 := [some (rV x0), some (iV x1), none]) rfl ?_
    exact w_X4_rest_35 HE hr f0 hw
theorem k_X4_rest {G : GT} {x0 x1 : Int} {Q : Int → Hp → Prop} {h : Hp} (f0 : Lay_X4 h x0) (l : Launch) (hw : g_X4_rest x0 x1 Q h) : XM G l yX4_rest cX4_rest 3 (some .int) 8 190 [rV x0, iV x1] (QI Q) h :=
  XM.of (by decide) (Nat.le_of_ble_eq_true rfl) (fun X HE hr hn => w_X4_rest_0 HE hr f0 hw)
def g_X4_rests_b68 (x0 : Int) (Q : Int → Hp → Prop) (l1 : Int) (h : Hp) : Prop :=
  Q l1 h
theorem w_X4_rests_68 {G : GT} {X : ET} {h0 : Hp} {x0 : Int} (HE : XE G X cX4_rests 3 RX4 8 190 h0) (hr : XR X (some .int)) (f0 : Lay_X4 h0 x0) {Q : Int → Hp → Prop} {l1 : Int} {h : Hp} (hw : g_X4_rests_b68 x0 Q l1 h) : Wx G X h0 (QI Q) h 68 [some (rV x0), some (iV l1), none] [] := by
  refine Wx.start (fun EB => ?_)
  unfold g_X4_rests_b68 at hw
  refine x_iload_n HE 1 dX4_rests_68 rfl rfl ?_
  exact x_iret HE hr dX4_rests_69 hw
def g_X4_rests_b60 (x0 : Int) (Q : Int → Hp → Prop) (K38 : Int → Int → Hp → Prop) (l2 s0 s1 : Int) (h : Hp) : Prop :=
  (i32 (s0 + s1)) ∧ (∀ y61 : Int, y61 = (s0 + s1) → ((i32 (l2 + 1)) ∧ (∀ y62 : Int, y62 = l2 + 1 → (K38 y61 y62 h))))
theorem w_X4_rests_60 {G : GT} {X : ET} {h0 : Hp} {x0 : Int} (HE : XE G X cX4_rests 3 RX4 8 190 h0) (hr : XR X (some .int)) (f0 : Lay_X4 h0 x0) {Q : Int → Hp → Prop} {K38 : Int → Int → Hp → Prop} (hK38 : ∀ (l1 l2 : Int) (h : Hp), K38 l1 l2 h → Wx G X h0 (QI Q) h 38 [some (rV x0), some (iV l1), some (iV l2)] []) {l2 s0 s1 : Int} {h : Hp} (hw : g_X4_rests_b60 x0 Q K38 l2 s0 s1 h) : Wx G X h0 (QI Q) h 60 [some (rV x0), none, some (iV l2)] [iV s1, iV s0] := by
  refine Wx.start (fun EB => ?_)
  unfold g_X4_rests_b60 at hw
  obtain ⟨v60, hw⟩ := hw
  refine x_iadd HE dX4_rests_60 v60 ?_
  refine x_istore_nN HE 1 (fun y61 => [some (rV x0), some (iV y61), some (iV l2)]) dX4_rests_61 rfl (Nat.le_of_ble_eq_true rfl) (fun _ => rfl) (fun y61 ey61 => ?_)
  have hw := hw y61 ey61
  obtain ⟨v62, hw⟩ := hw
  refine x_iincN HE (fun y62 => [some (rV x0), some (iV y61), some (iV y62)]) dX4_rests_62 rfl v62 (Nat.le_of_ble_eq_true rfl) (fun _ => rfl) (fun y62 ey62 => ?_)
  have hw := hw y62 ey62
  refine x_goto HE 38 dX4_rests_65 (by decide) ?_
  exact hK38 _ _ _ hw
def g_X4_rests_L38 (x0 : Int) (Q : Int → Hp → Prop) (K38 : Int → Int → Hp → Prop) (l1 l2 : Int) (h : Hp) : Prop :=
  g_X4_allPeople x0 (fun r40 m40 => Ext h m40 → (((r40 < l2) → (g_X4_rests_b68 x0 Q l1 m40)) ∧ ((l2 ≤ r40) → (g_X4_isAtRest x0 l2 (fun r49 m49 => Ext m40 m49 → (((r49 = 0) → (g_X4_rests_b60 x0 Q K38 l2 l1 0 m49)) ∧ ((r49 ≠ 0) → (g_X4_rests_b60 x0 Q K38 l2 l1 1 m49)))) m40)))) h
theorem w_X4_rests_38 {G : GT} {X : ET} {h0 : Hp} {x0 : Int} (HE : XE G X cX4_rests 3 RX4 8 190 h0) (hr : XR X (some .int)) (f0 : Lay_X4 h0 x0) {Q : Int → Hp → Prop} {K38 : Int → Int → Hp → Prop} (hK38 : ∀ (l1 l2 : Int) (h : Hp), K38 l1 l2 h → Wx G X h0 (QI Q) h 38 [some (rV x0), some (iV l1), some (iV l2)] []) {l1 l2 : Int} {h : Hp} (hw : g_X4_rests_L38 x0 Q K38 l1 l2 h) : Wx G X h0 (QI Q) h 38 [some (rV x0), some (iV l1), some (iV l2)] [] := by
  refine Wx.start (fun EB => ?_)
  unfold g_X4_rests_L38 at hw
  refine x_iload_n HE 2 dX4_rests_38 rfl rfl ?_
  refine x_aload_n HE 0 dX4_rests_39 rfl rfl ?_
  refine x_callV HE dX4_rests_40 rfl (fun l => k_X4_allPeople (f0.ext EB) l hw) (As := []) (rest := [iV l2]) rfl xc10 (Lay_X4.tag (f0.ext EB)) (lw_V q2380 q2382 qs112 q129 q2383) hy_X4_allPeople rfl rfl (Nat.le_of_ble_eq_true rfl) (Nat.le_of_ble_eq_true rfl) (Nat.le_of_ble_eq_true rfl) (kkI (fun r40 m40 E40 hw => ?_))
  have hw := hw E40
  refine x_ic_gt HE 68 dX4_rests_43 (by decide) (fun c43 => ?_) (fun c43 => ?_)
  · have hw := hw.1 c43
    refine Wx.mask [true, true, false] (lo2 := [some (rV x0), some (iV l1), none]) rfl ?_
    exact w_X4_rests_68 HE hr f0 hw
  · have hw := hw.2 c43
    refine x_iload_n HE 1 dX4_rests_46 rfl rfl ?_
    refine x_aload_n HE 0 dX4_rests_47 rfl rfl ?_
    refine x_iload_n HE 2 dX4_rests_48 rfl rfl ?_
    refine x_callV HE dX4_rests_49 rfl (fun l => k_X4_isAtRest (f0.ext (EB.tr E40)) l hw) (As := [iV l2]) (rest := [iV l1]) rfl xc10 (Lay_X4.tag (f0.ext (EB.tr E40))) (lw_V q2392 q2394 qs114 q129 q2395) hy_X4_isAtRest rfl rfl (Nat.le_of_ble_eq_true rfl) (Nat.le_of_ble_eq_true rfl) (Nat.le_of_ble_eq_true rfl) (kkI (fun r49 m49 E49 hw => ?_))
    have hw := hw E49
    refine x_if_eq HE 59 dX4_rests_52 (by decide) (fun c52 => ?_) (fun c52 => ?_)
    · have hw := hw.1 c52
      refine x_iconst HE dX4_rests_59 (by decide) ?_
      refine Wx.mask [true, false, true] (lo2 := [some (rV x0), none, some (iV l2)]) rfl ?_
      exact w_X4_rests_60 HE hr f0 hK38 hw
    · have hw := hw.2 c52
      refine x_iconst HE dX4_rests_55 (by decide) ?_
      refine x_goto HE 60 dX4_rests_56 (by decide) ?_
      refine Wx.mask [true, false, true] (lo2 := [some (rV x0), none, some (iV l2)]) rfl ?_
      exact w_X4_rests_60 HE hr f0 hK38 hw
theorem wl_X4_rests_38 {G : GT} {X : ET} {h0 : Hp} {x0 : Int} (HE : XE G X cX4_rests 3 RX4 8 190 h0) (hr : XR X (some .int)) (f0 : Lay_X4 h0 x0) {Q : Int → Hp → Prop} {l1 l2 : Int} {h : Hp} (hw : Lp2 (g_X4_rests_L38 x0 Q) l1 l2 h) : Wx G X h0 (QI Q) h 38 [some (rV x0), some (iV l1), some (iV l2)] [] := by
  obtain ⟨n, hw⟩ := hw
  induction n generalizing l1 l2 h with
  | zero => exact hw.elim
  | succ n ih => exact w_X4_rests_38 HE hr f0 (fun _ _ _ hk => ih hk) hw
def g_X4_rests (x0 : Int) (Q : Int → Hp → Prop) (h : Hp) : Prop :=
  g_X4_good x0 (fun m1 => Ext h m1 → ((((hF m1 x0 14) ≠ 0) → ((((hA m1 (x0 + 3) 5) ≤ 7) → (Lp2 (g_X4_rests_L38 x0 Q) 0 0 m1)) ∧ ((7 < (hA m1 (x0 + 3) 5)) → (g_X4_no x0 3 (fun r30 m30 => Ext m1 m30 → (Q r30 m30)) m1)))) ∧ (((hF m1 x0 14) = 0) → (g_X4_no x0 1 (fun r13 m13 => Ext m1 m13 → (Q r13 m13)) m1)))) h
theorem w_X4_rests_0 {G : GT} {X : ET} {h0 : Hp} {x0 : Int} (HE : XE G X cX4_rests 3 RX4 8 190 h0) (hr : XR X (some .int)) (f0 : Lay_X4 h0 x0) {Q : Int → Hp → Prop} {h : Hp} (hw : g_X4_rests x0 Q h) : Wx G X h0 (QI Q) h 0 [some (rV x0), none, none] [] := by
  refine Wx.start (fun EB => ?_)
  unfold g_X4_rests at hw
  refine x_aload_n HE 0 dX4_rests_0 rfl rfl ?_
  refine x_callV HE dX4_rests_1 rfl (fun l => k_X4_good (f0.ext EB) l hw) (As := []) (rest := []) rfl xc10 (Lay_X4.tag (f0.ext EB)) (lw_V q1955 q1957 qs55 q129 q1958) hy_X4_good rfl rfl (Nat.le_of_ble_eq_true rfl) (Nat.le_of_ble_eq_true rfl) (Nat.le_of_ble_eq_true rfl) (kkV (fun m1 E1 hw => ?_))
  have hw := hw E1
  refine x_aload_n HE 0 dX4_rests_4 rfl rfl ?_
  refine x_gI HE dX4_rests_5 fd_X4_14 q1851 (Or.inl rfl) (Lay_X4.tag (f0.ext (EB.tr E1))) rfl ?_
  refine x_if_ne HE 17 dX4_rests_8 (by decide) (fun c8 => ?_) (fun c8 => ?_)
  · have hw := hw.1 c8
    refine x_aload_n HE 0 dX4_rests_17 rfl rfl ?_
    refine x_gR HE dX4_rests_18 fd_X4_15 q1852 (Or.inl rfl) (Lay_X4.tag (f0.ext (EB.tr E1))) (Lay_X4_15 (f0.ext (EB.tr E1))).1 ?_
    refine x_iconst HE dX4_rests_21 (by decide) ?_
    refine x_iald HE dX4_rests_22 (t := 1) (by decide) ((Lay_X4_15 (f0.ext (EB.tr E1))).2.1) (ix_of ((Lay_X4_15 (f0.ext (EB.tr E1))).2.2) (by decide)) rfl ?_
    refine x_bipush HE dX4_rests_23 (by decide) ?_
    refine x_ic_le HE 34 dX4_rests_25 (by decide) (fun c25 => ?_) (fun c25 => ?_)
    · have hw := hw.1 c25
      refine x_iconst HE dX4_rests_34 (by decide) ?_
      refine x_istore_n HE 1 (lo' := [some (rV x0), some (iV 0), none]) dX4_rests_35 rfl (Nat.le_of_ble_eq_true rfl) rfl ?_
      refine x_iconst HE dX4_rests_36 (by decide) ?_
      refine x_istore_n HE 2 (lo' := [some (rV x0), some (iV 0), some (iV 0)]) dX4_rests_37 rfl (Nat.le_of_ble_eq_true rfl) rfl ?_
      exact wl_X4_rests_38 HE hr f0 hw
    · have hw := hw.2 c25
      refine x_aload_n HE 0 dX4_rests_28 rfl rfl ?_
      refine x_iconst HE dX4_rests_29 (by decide) ?_
      refine x_callV HE dX4_rests_30 rfl (fun l => k_X4_no (f0.ext (EB.tr E1)) l hw) (As := [iV 3]) (rest := []) rfl xc10 (Lay_X4.tag (f0.ext (EB.tr E1))) (lw_V q1962 q1964 qs56 q129 q1965) hy_X4_no rfl rfl (Nat.le_of_ble_eq_true rfl) (Nat.le_of_ble_eq_true rfl) (Nat.le_of_ble_eq_true rfl) (kkI (fun r30 m30 E30 hw => ?_))
      have hw := hw E30
      exact x_iret HE hr dX4_rests_33 hw
  · have hw := hw.2 c8
    refine x_aload_n HE 0 dX4_rests_11 rfl rfl ?_
    refine x_iconst HE dX4_rests_12 (by decide) ?_
    refine x_callV HE dX4_rests_13 rfl (fun l => k_X4_no (f0.ext (EB.tr E1)) l hw) (As := [iV 1]) (rest := []) rfl xc10 (Lay_X4.tag (f0.ext (EB.tr E1))) (lw_V q1962 q1964 qs56 q129 q1965) hy_X4_no rfl rfl (Nat.le_of_ble_eq_true rfl) (Nat.le_of_ble_eq_true rfl) (Nat.le_of_ble_eq_true rfl) (kkI (fun r13 m13 E13 hw => ?_))
    have hw := hw E13
    exact x_iret HE hr dX4_rests_16 hw
theorem k_X4_rests {G : GT} {x0 : Int} {Q : Int → Hp → Prop} {h : Hp} (f0 : Lay_X4 h x0) (l : Launch) (hw : g_X4_rests x0 Q h) : XM G l yX4_rests cX4_rests 3 (some .int) 8 190 [rV x0] (QI Q) h :=
  XM.of (by decide) (Nat.le_of_ble_eq_true rfl) (fun X HE hr hn => w_X4_rests_0 HE hr f0 hw)
def g_X4_rowFrom_b124 (Rc : Int → Int → Int → Int → Int → Int → Int → (Hp → Prop) → Hp → Prop) (x0 x1 x2 x3 x4 x5 x6 : Int) (Q : Hp → Prop) (h : Hp) : Prop :=
  Q h
theorem w_X4_rowFrom_124 {G : GT} {X : ET} {h0 : Hp} {frR lcR : Nat} (hf : 2 ≤ frR) (hl : 48 ≤ lcR) {x0 x1 x2 x3 x4 x5 x6 : Int} (HE : XE G X cX4_rowFrom 9 RX4 (frR + 1) (lcR + 28) h0) (hr : XR X none) (f0 : Lay_X4 h0 x0) {Rc : Int → Int → Int → Int → Int → Int → Int → (Hp → Prop) → Hp → Prop} (hRc : ∀ (l : Launch) (z0 z1 z2 z3 z4 z5 z6 : Int) (Q : Hp → Prop) (h : Hp), Lay_X4 h z0 → Rc z0 z1 z2 z3 z4 z5 z6 Q h → XM G l yX4_rowFrom cX4_rowFrom 9 none frR lcR [rV z0, iV z1, iV z2, iV z3, iV z4, iV z5, iV z6] (QV Q) h) {Q : Hp → Prop} {h : Hp} (hw : g_X4_rowFrom_b124 Rc x0 x1 x2 x3 x4 x5 x6 Q  h) : Wx G X h0 (QV Q) h 124 [some (rV x0), some (iV x1), some (iV x2), some (iV x3), some (iV x4), some (iV x5), some (iV x6), none, none] [] := by
  refine Wx.start (fun EB => ?_)
  unfold g_X4_rowFrom_b124 at hw
  exact x_vret HE hr dX4_rowFrom_124 hw
def g_X4_rowFrom_b118 (Rc : Int → Int → Int → Int → Int → Int → Int → (Hp → Prop) → Hp → Prop) (x0 x1 x2 x3 x4 x5 x6 : Int) (Q : Hp → Prop) (K39 : Int → Hp → Prop) (l7 : Int) (h : Hp) : Prop :=
  (i32 (l7 + 1)) ∧ (∀ y118 : Int, y118 = l7 + 1 → (K39 y118 h))
theorem w_X4_rowFrom_118 {G : GT} {X : ET} {h0 : Hp} {frR lcR : Nat} (hf : 2 ≤ frR) (hl : 48 ≤ lcR) {x0 x1 x2 x3 x4 x5 x6 : Int} (HE : XE G X cX4_rowFrom 9 RX4 (frR + 1) (lcR + 28) h0) (hr : XR X none) (f0 : Lay_X4 h0 x0) {Rc : Int → Int → Int → Int → Int → Int → Int → (Hp → Prop) → Hp → Prop} (hRc : ∀ (l : Launch) (z0 z1 z2 z3 z4 z5 z6 : Int) (Q : Hp → Prop) (h : Hp), Lay_X4 h z0 → Rc z0 z1 z2 z3 z4 z5 z6 Q h → XM G l yX4_rowFrom cX4_rowFrom 9 none frR lcR [rV z0, iV z1, iV z2, iV z3, iV z4, iV z5, iV z6] (QV Q) h) {Q : Hp → Prop} {K39 : Int → Hp → Prop} (hK39 : ∀ (l7 : Int) (h : Hp), K39 l7 h → Wx G X h0 (QV Q) h 39 [some (rV x0), some (iV x1), some (iV x2), some (iV x3), some (iV x4), some (iV x5), some (iV x6), some (iV l7), none] []) {l7 : Int} {h : Hp} (hw : g_X4_rowFrom_b118 Rc x0 x1 x2 x3 x4 x5 x6 Q K39 l7 h) : Wx G X h0 (QV Q) h 118 [some (rV x0), some (iV x1), some (iV x2), some (iV x3), some (iV x4), some (iV x5), some (iV x6), some (iV l7), none] [] := by
  refine Wx.start (fun EB => ?_)
  unfold g_X4_rowFrom_b118 at hw
  obtain ⟨v118, hw⟩ := hw
  refine x_iincN HE (fun y118 => [some (rV x0), some (iV x1), some (iV x2), some (iV x3), some (iV x4), some (iV x5), some (iV x6), some (iV y118), none]) dX4_rowFrom_118 rfl v118 (Nat.le_of_ble_eq_true rfl) (fun _ => rfl) (fun y118 ey118 => ?_)
  have hw := hw y118 ey118
  refine x_goto HE 39 dX4_rowFrom_121 (by decide) ?_
  exact hK39 _ _ hw
def g_X4_rowFrom_L39 (Rc : Int → Int → Int → Int → Int → Int → Int → (Hp → Prop) → Hp → Prop) (x0 x1 x2 x3 x4 x5 x6 : Int) (Q : Hp → Prop) (K39 : Int → Hp → Prop) (l7 : Int) (h : Hp) : Prop :=
  (((hA h (x0 + 3) 5) ≤ l7) → (g_X4_rowFrom_b124 Rc x0 x1 x2 x3 x4 x5 x6 Q h)) ∧ ((l7 < (hA h (x0 + 3) 5)) → (g_X4_hasBit x3 l7 (fun r53 m53 => Ext h m53 → (((r53 ≠ 0) → (g_X4_rowFrom_b118 Rc x0 x1 x2 x3 x4 x5 x6 Q K39 l7 m53)) ∧ ((r53 = 0) → (g_X4_isWaiting (x0 + 5) l7 (fun r65 m65 => Ext m53 m65 → (((r65 ≠ 0) → (g_X4_timeBehind x0 x4 l7 (fun r81 m81 => Ext m65 m81 → ((i32 (x5 + r81)) ∧ (∀ y85 : Int, y85 = (x5 + r81) → (((0 : Int) ≤ x1 ∧ x1 < 7) ∧ (∀ m94 : Hp, m94 = setA m81 (x0 + 13) x1 l7 → ((i32 (x1 + 1)) ∧ ((i32 (x6 + y85)) ∧ (Rc x0 (x1 + 1) x2 (bOr x3 (bShl 1 l7)) l7 y85 (x6 + y85) (fun m115 => Ext m94 m115 → (g_X4_rowFrom_b118 Rc x0 x1 x2 x3 x4 x5 x6 Q K39 l7 m115)) m94)))))))) m65)) ∧ ((r65 = 0) → (g_X4_rowFrom_b118 Rc x0 x1 x2 x3 x4 x5 x6 Q K39 l7 m65)))) m53)))) h))
theorem w_X4_rowFrom_39 {G : GT} {X : ET} {h0 : Hp} {frR lcR : Nat} (hf : 2 ≤ frR) (hl : 48 ≤ lcR) {x0 x1 x2 x3 x4 x5 x6 : Int} (HE : XE G X cX4_rowFrom 9 RX4 (frR + 1) (lcR + 28) h0) (hr : XR X none) (f0 : Lay_X4 h0 x0) {Rc : Int → Int → Int → Int → Int → Int → Int → (Hp → Prop) → Hp → Prop} (hRc : ∀ (l : Launch) (z0 z1 z2 z3 z4 z5 z6 : Int) (Q : Hp → Prop) (h : Hp), Lay_X4 h z0 → Rc z0 z1 z2 z3 z4 z5 z6 Q h → XM G l yX4_rowFrom cX4_rowFrom 9 none frR lcR [rV z0, iV z1, iV z2, iV z3, iV z4, iV z5, iV z6] (QV Q) h) {Q : Hp → Prop} {K39 : Int → Hp → Prop} (hK39 : ∀ (l7 : Int) (h : Hp), K39 l7 h → Wx G X h0 (QV Q) h 39 [some (rV x0), some (iV x1), some (iV x2), some (iV x3), some (iV x4), some (iV x5), some (iV x6), some (iV l7), none] []) {l7 : Int} {h : Hp} (hw : g_X4_rowFrom_L39 Rc x0 x1 x2 x3 x4 x5 x6 Q K39 l7 h) : Wx G X h0 (QV Q) h 39 [some (rV x0), some (iV x1), some (iV x2), some (iV x3), some (iV x4), some (iV x5), some (iV x6), some (iV l7), none] [] := by
  refine Wx.start (fun EB => ?_)
  unfold g_X4_rowFrom_L39 at hw
  refine x_iload HE dX4_rowFrom_39 rfl ?_
  refine x_aload_n HE 0 dX4_rowFrom_41 rfl rfl ?_
  refine x_gR HE dX4_rowFrom_42 fd_X4_15 q1852 (Or.inl rfl) (Lay_X4.tag (f0.ext EB)) (Lay_X4_15 (f0.ext EB)).1 ?_
  refine x_iconst HE dX4_rowFrom_45 (by decide) ?_
  refine x_iald HE dX4_rowFrom_46 (t := 1) (by decide) ((Lay_X4_15 (f0.ext EB)).2.1) (ix_of ((Lay_X4_15 (f0.ext EB)).2.2) (by decide)) rfl ?_
  refine x_ic_ge HE 124 dX4_rowFrom_47 (by decide) (fun c47 => ?_) (fun c47 => ?_)
  · have hw := hw.1 c47
    refine Wx.mask [true, true, true, true, true, true, true, false, true] (lo2 := [some (rV x0), some (iV x1), some (iV x2), some (iV x3), some (iV x4), some (iV x5), some (iV x6), none, none]) rfl ?_
    exact w_X4_rowFrom_124 hf hl HE hr f0 hRc hw
  · have hw := hw.2 c47
    refine x_iload_n HE 3 dX4_rowFrom_50 rfl rfl ?_
    refine x_iload HE dX4_rowFrom_51 rfl ?_
    refine x_callS HE dX4_rowFrom_53 rfl (fun l => k_X4_hasBit  l hw) (As := [iV x3, iV l7]) (rest := []) rfl (lw_S q2278 q2279 q129 q2280) hy_X4_hasBit.2 rfl rfl (Nat.le_of_ble_eq_true rfl) (by omega) (by omega) (kkI (fun r53 m53 E53 hw => ?_))
    have hw := hw E53
    refine x_if_ne HE 118 dX4_rowFrom_56 (by decide) (fun c56 => ?_) (fun c56 => ?_)
    · have hw := hw.1 c56
      exact w_X4_rowFrom_118 hf hl HE hr f0 hRc hK39 hw
    · have hw := hw.2 c56
      refine x_aload_n HE 0 dX4_rowFrom_59 rfl rfl ?_
      refine x_gR HE dX4_rowFrom_60 fd_X4_17 q1854 (Or.inl rfl) (Lay_X4.tag (f0.ext (EB.tr E53))) (Lay_X4_17 (f0.ext (EB.tr E53))).1 ?_
      refine x_iload HE dX4_rowFrom_63 rfl ?_
      refine x_callS HE dX4_rowFrom_65 rfl (fun l => k_X4_isWaiting ⟨(Lay_X4_17 (f0.ext (EB.tr E53))).2.1, (Lay_X4_17 (f0.ext (EB.tr E53))).2.2⟩ l hw) (As := [rV (x0 + 5), iV l7]) (rest := []) rfl (lw_S q2165 q2166 q129 q2167) hy_X4_isWaiting.2 rfl rfl (Nat.le_of_ble_eq_true rfl) (by omega) (by omega) (kkI (fun r65 m65 E65 hw => ?_))
      have hw := hw E65
      refine x_if_ne HE 74 dX4_rowFrom_68 (by decide) (fun c68 => ?_) (fun c68 => ?_)
      · have hw := hw.1 c68
        refine x_iload HE dX4_rowFrom_74 rfl ?_
        refine x_aload_n HE 0 dX4_rowFrom_76 rfl rfl ?_
        refine x_iload HE dX4_rowFrom_77 rfl ?_
        refine x_iload HE dX4_rowFrom_79 rfl ?_
        refine x_callV HE dX4_rowFrom_81 rfl (fun l => k_X4_timeBehind (f0.ext (EB.tr (E53.tr E65))) l hw) (As := [iV x4, iV l7]) (rest := [iV x5]) rfl xc10 (Lay_X4.tag (f0.ext (EB.tr (E53.tr E65)))) (lw_V q2202 q2204 qs91 q129 q2205) hy_X4_timeBehind rfl rfl (Nat.le_of_ble_eq_true rfl) (by omega) (by omega) (kkI (fun r81 m81 E81 hw => ?_))
        have hw := hw E81
        obtain ⟨v84, hw⟩ := hw
        refine x_iadd HE dX4_rowFrom_84 v84 ?_
        refine x_istoreN HE (fun y85 => [some (rV x0), some (iV x1), some (iV x2), some (iV x3), some (iV x4), some (iV x5), some (iV x6), some (iV l7), some (iV y85)]) dX4_rowFrom_85 (Nat.le_of_ble_eq_true rfl) (fun _ => rfl) (fun y85 ey85 => ?_)
        have hw := hw y85 ey85
        refine x_aload_n HE 0 dX4_rowFrom_87 rfl rfl ?_
        refine x_gR HE dX4_rowFrom_88 fd_X4_31 q1868 (Or.inl rfl) (Lay_X4.tag (f0.ext (EB.tr (E53.tr (E65.tr E81))))) (Lay_X4_31 (f0.ext (EB.tr (E53.tr (E65.tr E81))))).1 ?_
        refine x_iload_n HE 1 dX4_rowFrom_91 rfl rfl ?_
        refine x_iload HE dX4_rowFrom_92 rfl ?_
        obtain ⟨i94, hw⟩ := hw
        refine x_iast HE dX4_rowFrom_94 ((Lay_X4_31 (f0.ext (EB.tr (E53.tr (E65.tr E81))))).2.1) (ix_of ((Lay_X4_31 (f0.ext (EB.tr (E53.tr (E65.tr E81))))).2.2) i94) (fun m94 em94 E94 => ?_)
        have hw := hw m94 em94
        refine x_aload_n HE 0 dX4_rowFrom_95 rfl rfl ?_
        refine x_iload_n HE 1 dX4_rowFrom_96 rfl rfl ?_
        refine x_iconst HE dX4_rowFrom_97 (by decide) ?_
        obtain ⟨v98, hw⟩ := hw
        refine x_iadd HE dX4_rowFrom_98 v98 ?_
        refine x_iload_n HE 2 dX4_rowFrom_99 rfl rfl ?_
        refine x_iload_n HE 3 dX4_rowFrom_100 rfl rfl ?_
        refine x_iconst HE dX4_rowFrom_101 (by decide) ?_
        refine x_iload HE dX4_rowFrom_102 rfl ?_
        refine x_ishl HE dX4_rowFrom_104 ?_
        refine x_ior HE dX4_rowFrom_105 ?_
        refine x_iload HE dX4_rowFrom_106 rfl ?_
        refine x_iload HE dX4_rowFrom_108 rfl ?_
        refine x_iload HE dX4_rowFrom_110 rfl ?_
        refine x_iload HE dX4_rowFrom_112 rfl ?_
        obtain ⟨v114, hw⟩ := hw
        refine x_iadd HE dX4_rowFrom_114 v114 ?_
        refine x_callV HE dX4_rowFrom_115 rfl (fun l => hRc l _ _ _ _ _ _ _ _ _ (f0.ext (EB.tr (E53.tr (E65.tr (E81.tr E94))))) hw) (As := [iV (x1 + 1), iV x2, iV (bOr x3 (bShl 1 l7)), iV l7, iV y85, iV (x6 + y85)]) (rest := []) rfl xc10 (Lay_X4.tag (f0.ext (EB.tr (E53.tr (E65.tr (E81.tr E94)))))) (lw_V q2408 q2410 qs116 q129 q2411) hy_X4_rowFrom rfl rfl (Nat.le_of_ble_eq_true rfl) (by omega) (by omega) (kkV (fun m115 E115 hw => ?_))
        have hw := hw E115
        refine Wx.mask [true, true, true, true, true, true, true, true, false] (lo2 := [some (rV x0), some (iV x1), some (iV x2), some (iV x3), some (iV x4), some (iV x5), some (iV x6), some (iV l7), none]) rfl ?_
        exact w_X4_rowFrom_118 hf hl HE hr f0 hRc hK39 hw
      · have hw := hw.2 c68
        refine x_goto HE 118 dX4_rowFrom_71 (by decide) ?_
        exact w_X4_rowFrom_118 hf hl HE hr f0 hRc hK39 hw
theorem wl_X4_rowFrom_39 {G : GT} {X : ET} {h0 : Hp} {frR lcR : Nat} (hf : 2 ≤ frR) (hl : 48 ≤ lcR) {x0 x1 x2 x3 x4 x5 x6 : Int} (HE : XE G X cX4_rowFrom 9 RX4 (frR + 1) (lcR + 28) h0) (hr : XR X none) (f0 : Lay_X4 h0 x0) {Rc : Int → Int → Int → Int → Int → Int → Int → (Hp → Prop) → Hp → Prop} (hRc : ∀ (l : Launch) (z0 z1 z2 z3 z4 z5 z6 : Int) (Q : Hp → Prop) (h : Hp), Lay_X4 h z0 → Rc z0 z1 z2 z3 z4 z5 z6 Q h → XM G l yX4_rowFrom cX4_rowFrom 9 none frR lcR [rV z0, iV z1, iV z2, iV z3, iV z4, iV z5, iV z6] (QV Q) h) {Q : Hp → Prop} {l7 : Int} {h : Hp} (hw : Lp1 (g_X4_rowFrom_L39 Rc x0 x1 x2 x3 x4 x5 x6 Q) l7 h) : Wx G X h0 (QV Q) h 39 [some (rV x0), some (iV x1), some (iV x2), some (iV x3), some (iV x4), some (iV x5), some (iV x6), some (iV l7), none] [] := by
  obtain ⟨n, hw⟩ := hw
  induction n generalizing l7 h with
  | zero => exact hw.elim
  | succ n ih => exact w_X4_rowFrom_39 hf hl HE hr f0 hRc (fun _ _ hk => ih hk) hw
def gs_X4_rowFrom (Rc : Int → Int → Int → Int → Int → Int → Int → (Hp → Prop) → Hp → Prop) (x0 x1 x2 x3 x4 x5 x6 : Int) (Q : Hp → Prop) (h : Hp) : Prop :=
  ((x6 < (hF h x0 33)) → (((x1 ≠ x2) → (Lp1 (g_X4_rowFrom_L39 Rc x0 x1 x2 x3 x4 x5 x6 Q) 0 h)) ∧ ((x1 = x2) → (∀ m18 : Hp, m18 = setF h x0 33 x6 → (g_X4_copy (x0 + 13) 0 (x0 + 14) 0 x2 (fun m32 => Ext m18 m32 → (Q m32)) m18))))) ∧ (((hF h x0 33) ≤ x6) → (Q h))
theorem w_X4_rowFrom_0 {G : GT} {X : ET} {h0 : Hp} {frR lcR : Nat} (hf : 2 ≤ frR) (hl : 48 ≤ lcR) {x0 x1 x2 x3 x4 x5 x6 : Int} (HE : XE G X cX4_rowFrom 9 RX4 (frR + 1) (lcR + 28) h0) (hr : XR X none) (f0 : Lay_X4 h0 x0) {Rc : Int → Int → Int → Int → Int → Int → Int → (Hp → Prop) → Hp → Prop} (hRc : ∀ (l : Launch) (z0 z1 z2 z3 z4 z5 z6 : Int) (Q : Hp → Prop) (h : Hp), Lay_X4 h z0 → Rc z0 z1 z2 z3 z4 z5 z6 Q h → XM G l yX4_rowFrom cX4_rowFrom 9 none frR lcR [rV z0, iV z1, iV z2, iV z3, iV z4, iV z5, iV z6] (QV Q) h) {Q : Hp → Prop} {h : Hp} (hw : gs_X4_rowFrom Rc x0 x1 x2 x3 x4 x5 x6 Q h) : Wx G X h0 (QV Q) h 0 [some (rV x0), some (iV x1), some (iV x2), some (iV x3), some (iV x4), some (iV x5), some (iV x6), none, none] [] := by
  refine Wx.start (fun EB => ?_)
  unfold gs_X4_rowFrom at hw
  refine x_iload HE dX4_rowFrom_0 rfl ?_
  refine x_aload_n HE 0 dX4_rowFrom_2 rfl rfl ?_
  refine x_gI HE dX4_rowFrom_3 fd_X4_33 q1870 (Or.inl rfl) (Lay_X4.tag (f0.ext EB)) rfl ?_
  refine x_ic_lt HE 10 dX4_rowFrom_6 (by decide) (fun c6 => ?_) (fun c6 => ?_)
  · have hw := hw.1 c6
    refine x_iload_n HE 1 dX4_rowFrom_10 rfl rfl ?_
    refine x_iload_n HE 2 dX4_rowFrom_11 rfl rfl ?_
    refine x_ic_ne HE 36 dX4_rowFrom_12 (by decide) (fun c12 => ?_) (fun c12 => ?_)
    · have hw := hw.1 c12
      refine x_iconst HE dX4_rowFrom_36 (by decide) ?_
      refine x_istore HE (lo' := [some (rV x0), some (iV x1), some (iV x2), some (iV x3), some (iV x4), some (iV x5), some (iV x6), some (iV 0), none]) dX4_rowFrom_37 (Nat.le_of_ble_eq_true rfl) rfl ?_
      exact wl_X4_rowFrom_39 hf hl HE hr f0 hRc hw
    · have hw := hw.2 c12
      refine x_aload_n HE 0 dX4_rowFrom_15 rfl rfl ?_
      refine x_iload HE dX4_rowFrom_16 rfl ?_
      refine x_pI HE dX4_rowFrom_18 fd_X4_33 q1870 (Or.inl rfl) (Or.inl rfl) (nf_int _) (Lay_X4.tag (f0.ext EB)) (nro (by decide)) (Or.inl nf_X4_33) (fun m18 em18 E18 => ?_)
      have hw := hw m18 em18
      refine x_aload_n HE 0 dX4_rowFrom_21 rfl rfl ?_
      refine x_gR HE dX4_rowFrom_22 fd_X4_31 q1868 (Or.inl rfl) (Lay_X4.tag (f0.ext (EB.tr E18))) (Lay_X4_31 (f0.ext (EB.tr E18))).1 ?_
      refine x_iconst HE dX4_rowFrom_25 (by decide) ?_
      refine x_aload_n HE 0 dX4_rowFrom_26 rfl rfl ?_
      refine x_gR HE dX4_rowFrom_27 fd_X4_32 q1869 (Or.inl rfl) (Lay_X4.tag (f0.ext (EB.tr E18))) (Lay_X4_32 (f0.ext (EB.tr E18))).1 ?_
      refine x_iconst HE dX4_rowFrom_30 (by decide) ?_
      refine x_iload_n HE 2 dX4_rowFrom_31 rfl rfl ?_
      refine x_callS HE dX4_rowFrom_32 rfl (fun l => k_X4_copy  l hw) (As := [rV (x0 + 13), iV 0, rV (x0 + 14), iV 0, iV x2]) (rest := []) rfl (lw_S q2113 q2114 q129 q2115) hy_X4_copy.2 rfl rfl (Nat.le_of_ble_eq_true rfl) (by omega) (by omega) (kkV (fun m32 E32 hw => ?_))
      have hw := hw E32
      exact x_vret HE hr dX4_rowFrom_35 hw
  · have hw := hw.2 c6
    exact x_vret HE hr dX4_rowFrom_9 hw
def g_X4_rowFrom : Nat → Int → Int → Int → Int → Int → Int → Int → (Hp → Prop) → Hp → Prop
  | 0 => fun _ _ _ _ _ _ _ _ _ => False
  | n + 1 => gs_X4_rowFrom (g_X4_rowFrom n)
theorem k_X4_rowFrom {G : GT} (n : Nat) {x0 x1 x2 x3 x4 x5 x6 : Int} {Q : Hp → Prop} {h : Hp} (f0 : Lay_X4 h x0) (l : Launch) (hw : g_X4_rowFrom n x0 x1 x2 x3 x4 x5 x6 Q h) : XM G l yX4_rowFrom cX4_rowFrom 9 none (2 + n) (48 + n * 28) [rV x0, iV x1, iV x2, iV x3, iV x4, iV x5, iV x6] (QV Q) h := by
  induction n generalizing l x0 x1 x2 x3 x4 x5 x6 Q h with
  | zero => exact hw.elim
  | succ n ih =>
    have e1 : 2 + (n + 1) = (2 + n) + 1 := by omega
    have e2 : 48 + (n + 1) * 28 = (48 + n * 28) + 28 := by omega
    rw [e1, e2]
    exact XM.of (by decide) (Nat.le_of_ble_eq_true rfl) (fun X HE hr hn => w_X4_rowFrom_0 (frR := 2 + n) (lcR := 48 + n * 28) (by omega) (by omega) HE hr f0 (fun l _ _ _ _ _ _ _ Q h q0 hk => ih q0 l hk) hw)
def g_X4_rowWhy (x0 x1 : Int) (Q : Int → Hp → Prop) (h : Hp) : Prop :=
  g_X4_isStaff x0 x1 (fun r2 m2 => Ext h m2 → (((r2 ≠ 0) → (g_X4_manyWaiting x0 (x0 + 5) (fun r15 m15 => Ext m2 m15 → (((r15 ≤ 7) → (∀ m31 : Hp, m31 = setF m15 x0 33 1000000 → ((i32 (4 * x1)) ∧ ((i32 (92 + (4 * x1))) ∧ ((i32 ((92 + (4 * x1)) + 3)) ∧ (((0 : Int) ≤ ((92 + (4 * x1)) + 3) ∧ ((92 + (4 * x1)) + 3) < 108) ∧ ((i32 ((hA m31 (x0 + 5) ((92 + (4 * x1)) + 3)) - 1)) ∧ (g_X4_rowFrom 9 x0 0 r15 0 ((hA m31 (x0 + 5) ((92 + (4 * x1)) + 3)) - 1) 0 0 (fun m55 => Ext m31 m55 → (Q 0 m55)) m31)))))))) ∧ ((7 < r15) → (Q 3 m15)))) m2)) ∧ ((r2 = 0) → (Q 1 m2)))) h
theorem w_X4_rowWhy_0 {G : GT} {X : ET} {h0 : Hp} {x0 x1 : Int} (HE : XE G X cX4_rowWhy 3 RX4 12 328 h0) (hr : XR X (some .int)) (f0 : Lay_X4 h0 x0) {Q : Int → Hp → Prop} {h : Hp} (hw : g_X4_rowWhy x0 x1 Q h) : Wx G X h0 (QI Q) h 0 [some (rV x0), some (iV x1), none] [] := by
  refine Wx.start (fun EB => ?_)
  unfold g_X4_rowWhy at hw
  refine x_aload_n HE 0 dX4_rowWhy_0 rfl rfl ?_
  refine x_iload_n HE 1 dX4_rowWhy_1 rfl rfl ?_
  refine x_callV HE dX4_rowWhy_2 rfl (fun l => k_X4_isStaff (f0.ext EB) l hw) (As := [iV x1]) (rest := []) rfl xc10 (Lay_X4.tag (f0.ext EB)) (lw_V q2152 q2154 qs85 q129 q2155) hy_X4_isStaff rfl rfl (Nat.le_of_ble_eq_true rfl) (Nat.le_of_ble_eq_true rfl) (Nat.le_of_ble_eq_true rfl) (kkI (fun r2 m2 E2 hw => ?_))
  have hw := hw E2
  refine x_if_ne HE 10 dX4_rowWhy_5 (by decide) (fun c5 => ?_) (fun c5 => ?_)
  · have hw := hw.1 c5
    refine x_aload_n HE 0 dX4_rowWhy_10 rfl rfl ?_
    refine x_aload_n HE 0 dX4_rowWhy_11 rfl rfl ?_
    refine x_gR HE dX4_rowWhy_12 fd_X4_17 q1854 (Or.inl rfl) (Lay_X4.tag (f0.ext (EB.tr E2))) (Lay_X4_17 (f0.ext (EB.tr E2))).1 ?_
    refine x_callV HE dX4_rowWhy_15 rfl (fun l => k_X4_manyWaiting (f0.ext (EB.tr E2)) ⟨(Lay_X4_17 (f0.ext (EB.tr E2))).2.1, (Lay_X4_17 (f0.ext (EB.tr E2))).2.2⟩ l hw) (As := [rV (x0 + 5)]) (rest := []) rfl xc10 (Lay_X4.tag (f0.ext (EB.tr E2))) (lw_V q2175 q2177 qs87 q129 q2178) hy_X4_manyWaiting rfl rfl (Nat.le_of_ble_eq_true rfl) (Nat.le_of_ble_eq_true rfl) (Nat.le_of_ble_eq_true rfl) (kkI (fun r15 m15 E15 hw => ?_))
    have hw := hw E15
    refine x_istore_n HE 2 (lo' := [some (rV x0), some (iV x1), some (iV r15)]) dX4_rowWhy_18 rfl (Nat.le_of_ble_eq_true rfl) rfl ?_
    refine x_iload_n HE 2 dX4_rowWhy_19 rfl rfl ?_
    refine x_bipush HE dX4_rowWhy_20 (by decide) ?_
    refine x_ic_le HE 27 dX4_rowWhy_22 (by decide) (fun c22 => ?_) (fun c22 => ?_)
    · have hw := hw.1 c22
      refine x_aload_n HE 0 dX4_rowWhy_27 rfl rfl ?_
      refine x_ldcwI (n := 1000000) HE dX4_rowWhy_28 q2156 (by unfold i32; decide) rfl ?_
      refine x_pI HE dX4_rowWhy_31 fd_X4_33 q1870 (Or.inl rfl) (Or.inl rfl) (nf_int _) (Lay_X4.tag (f0.ext (EB.tr (E2.tr E15)))) (nro (by decide)) (Or.inl nf_X4_33) (fun m31 em31 E31 => ?_)
      have hw := hw m31 em31
      refine x_aload_n HE 0 dX4_rowWhy_34 rfl rfl ?_
      refine x_iconst HE dX4_rowWhy_35 (by decide) ?_
      refine x_iload_n HE 2 dX4_rowWhy_36 rfl rfl ?_
      refine x_iconst HE dX4_rowWhy_37 (by decide) ?_
      refine x_aload_n HE 0 dX4_rowWhy_38 rfl rfl ?_
      refine x_gR HE dX4_rowWhy_39 fd_X4_17 q1854 (Or.inl rfl) (Lay_X4.tag (f0.ext (EB.tr (E2.tr (E15.tr E31))))) (Lay_X4_17 (f0.ext (EB.tr (E2.tr (E15.tr E31))))).1 ?_
      refine x_bipush HE dX4_rowWhy_42 (by decide) ?_
      refine x_iconst HE dX4_rowWhy_44 (by decide) ?_
      refine x_iload_n HE 1 dX4_rowWhy_45 rfl rfl ?_
      obtain ⟨v46, hw⟩ := hw
      refine x_imul HE dX4_rowWhy_46 v46 ?_
      obtain ⟨v47, hw⟩ := hw
      refine x_iadd HE dX4_rowWhy_47 v47 ?_
      refine x_iconst HE dX4_rowWhy_48 (by decide) ?_
      obtain ⟨v49, hw⟩ := hw
      refine x_iadd HE dX4_rowWhy_49 v49 ?_
      obtain ⟨i50, hw⟩ := hw
      refine x_iald HE dX4_rowWhy_50 (t := 1) (by decide) ((Lay_X4_17 (f0.ext (EB.tr (E2.tr (E15.tr E31))))).2.1) (ix_of ((Lay_X4_17 (f0.ext (EB.tr (E2.tr (E15.tr E31))))).2.2) i50) rfl ?_
      refine x_iconst HE dX4_rowWhy_51 (by decide) ?_
      obtain ⟨v52, hw⟩ := hw
      refine x_isub HE dX4_rowWhy_52 v52 ?_
      refine x_iconst HE dX4_rowWhy_53 (by decide) ?_
      refine x_iconst HE dX4_rowWhy_54 (by decide) ?_
      refine x_callV HE dX4_rowWhy_55 rfl (fun l => k_X4_rowFrom 9 (f0.ext (EB.tr (E2.tr (E15.tr E31)))) l hw) (As := [iV 0, iV r15, iV 0, iV ((hA m31 (x0 + 5) ((92 + (4 * x1)) + 3)) - 1), iV 0, iV 0]) (rest := []) rfl xc10 (Lay_X4.tag (f0.ext (EB.tr (E2.tr (E15.tr E31))))) (lw_V q2408 q2410 qs116 q129 q2411) hy_X4_rowFrom rfl rfl (Nat.le_of_ble_eq_true rfl) (Nat.le_of_ble_eq_true rfl) (Nat.le_of_ble_eq_true rfl) (kkV (fun m55 E55 hw => ?_))
      have hw := hw E55
      refine x_iconst HE dX4_rowWhy_58 (by decide) ?_
      exact x_iret HE hr dX4_rowWhy_59 hw
    · have hw := hw.2 c22
      refine x_iconst HE dX4_rowWhy_25 (by decide) ?_
      exact x_iret HE hr dX4_rowWhy_26 hw
  · have hw := hw.2 c5
    refine x_iconst HE dX4_rowWhy_8 (by decide) ?_
    exact x_iret HE hr dX4_rowWhy_9 hw
theorem k_X4_rowWhy {G : GT} {x0 x1 : Int} {Q : Int → Hp → Prop} {h : Hp} (f0 : Lay_X4 h x0) (l : Launch) (hw : g_X4_rowWhy x0 x1 Q h) : XM G l yX4_rowWhy cX4_rowWhy 3 (some .int) 12 328 [rV x0, iV x1] (QI Q) h :=
  XM.of (by decide) (Nat.le_of_ble_eq_true rfl) (fun X HE hr hn => w_X4_rowWhy_0 HE hr f0 hw)
def g_X4_row_b60 (x0 x1 x2 : Int) (Q : Int → Hp → Prop) (s0 : Int) (h : Hp) : Prop :=
  Q s0 h
theorem w_X4_row_60 {G : GT} {X : ET} {h0 : Hp} {x0 x1 x2 : Int} (HE : XE G X cX4_row 4 RX4 13 350 h0) (hr : XR X (some .int)) (f0 : Lay_X4 h0 x0) {Q : Int → Hp → Prop} {s0 : Int} {h : Hp} (hw : g_X4_row_b60 x0 x1 x2 Q s0 h) : Wx G X h0 (QI Q) h 60 [some (rV x0), some (iV x1), some (iV x2), none] [iV s0] := by
  refine Wx.start (fun EB => ?_)
  unfold g_X4_row_b60 at hw
  exact x_iret HE hr dX4_row_60 hw
def g_X4_row_b30 (x0 x1 x2 : Int) (Q : Int → Hp → Prop) (h : Hp) : Prop :=
  g_X4_no x0 1 (fun r32 m32 => Ext h m32 → (Q r32 m32)) h
theorem w_X4_row_30 {G : GT} {X : ET} {h0 : Hp} {x0 x1 x2 : Int} (HE : XE G X cX4_row 4 RX4 13 350 h0) (hr : XR X (some .int)) (f0 : Lay_X4 h0 x0) {Q : Int → Hp → Prop} {h : Hp} (hw : g_X4_row_b30 x0 x1 x2 Q  h) : Wx G X h0 (QI Q) h 30 [some (rV x0), some (iV x1), some (iV x2), none] [] := by
  refine Wx.start (fun EB => ?_)
  unfold g_X4_row_b30 at hw
  refine x_aload_n HE 0 dX4_row_30 rfl rfl ?_
  refine x_iconst HE dX4_row_31 (by decide) ?_
  refine x_callV HE dX4_row_32 rfl (fun l => k_X4_no (f0.ext EB) l hw) (As := [iV 1]) (rest := []) rfl xc10 (Lay_X4.tag (f0.ext EB)) (lw_V q1962 q1964 qs56 q129 q1965) hy_X4_no rfl rfl (Nat.le_of_ble_eq_true rfl) (Nat.le_of_ble_eq_true rfl) (Nat.le_of_ble_eq_true rfl) (kkI (fun r32 m32 E32 hw => ?_))
  have hw := hw E32
  exact x_iret HE hr dX4_row_35 hw
def g_X4_row (x0 x1 x2 : Int) (Q : Int → Hp → Prop) (h : Hp) : Prop :=
  g_X4_good x0 (fun m1 => Ext h m1 → (g_X4_isStaff x0 x1 (fun r6 m6 => Ext m1 m6 → (((r6 = 0) → (g_X4_row_b30 x0 x1 x2 Q m6)) ∧ ((r6 ≠ 0) → (g_X4_manyWaiting x0 (x0 + 5) (fun r19 m19 => Ext m6 m19 → ((i32 (r19 - 1)) ∧ (g_X4_within x2 0 (r19 - 1) (fun r24 m24 => Ext m19 m24 → (((r24 ≠ 0) → (g_X4_rowWhy x0 x1 (fun r38 m38 => Ext m24 m38 → (((r38 = 0) → (((0 : Int) ≤ x2 ∧ x2 < 7) ∧ (g_X4_row_b60 x0 x1 x2 Q (hA m38 (x0 + 14) x2) m38))) ∧ ((r38 ≠ 0) → (g_X4_no x0 r38 (fun r48 m48 => Ext m38 m48 → (g_X4_row_b60 x0 x1 x2 Q r48 m48)) m38)))) m24)) ∧ ((r24 = 0) → (g_X4_row_b30 x0 x1 x2 Q m24)))) m19))) m6)))) m1)) h
theorem w_X4_row_0 {G : GT} {X : ET} {h0 : Hp} {x0 x1 x2 : Int} (HE : XE G X cX4_row 4 RX4 13 350 h0) (hr : XR X (some .int)) (f0 : Lay_X4 h0 x0) {Q : Int → Hp → Prop} {h : Hp} (hw : g_X4_row x0 x1 x2 Q h) : Wx G X h0 (QI Q) h 0 [some (rV x0), some (iV x1), some (iV x2), none] [] := by
  refine Wx.start (fun EB => ?_)
  unfold g_X4_row at hw
  refine x_aload_n HE 0 dX4_row_0 rfl rfl ?_
  refine x_callV HE dX4_row_1 rfl (fun l => k_X4_good (f0.ext EB) l hw) (As := []) (rest := []) rfl xc10 (Lay_X4.tag (f0.ext EB)) (lw_V q1955 q1957 qs55 q129 q1958) hy_X4_good rfl rfl (Nat.le_of_ble_eq_true rfl) (Nat.le_of_ble_eq_true rfl) (Nat.le_of_ble_eq_true rfl) (kkV (fun m1 E1 hw => ?_))
  have hw := hw E1
  refine x_aload_n HE 0 dX4_row_4 rfl rfl ?_
  refine x_iload_n HE 1 dX4_row_5 rfl rfl ?_
  refine x_callV HE dX4_row_6 rfl (fun l => k_X4_isStaff (f0.ext (EB.tr E1)) l hw) (As := [iV x1]) (rest := []) rfl xc10 (Lay_X4.tag (f0.ext (EB.tr E1))) (lw_V q2152 q2154 qs85 q129 q2155) hy_X4_isStaff rfl rfl (Nat.le_of_ble_eq_true rfl) (Nat.le_of_ble_eq_true rfl) (Nat.le_of_ble_eq_true rfl) (kkI (fun r6 m6 E6 hw => ?_))
  have hw := hw E6
  refine x_if_eq HE 30 dX4_row_9 (by decide) (fun c9 => ?_) (fun c9 => ?_)
  · have hw := hw.1 c9
    exact w_X4_row_30 HE hr f0 hw
  · have hw := hw.2 c9
    refine x_iload_n HE 2 dX4_row_12 rfl rfl ?_
    refine x_iconst HE dX4_row_13 (by decide) ?_
    refine x_aload_n HE 0 dX4_row_14 rfl rfl ?_
    refine x_aload_n HE 0 dX4_row_15 rfl rfl ?_
    refine x_gR HE dX4_row_16 fd_X4_17 q1854 (Or.inl rfl) (Lay_X4.tag (f0.ext (EB.tr (E1.tr E6)))) (Lay_X4_17 (f0.ext (EB.tr (E1.tr E6)))).1 ?_
    refine x_callV HE dX4_row_19 rfl (fun l => k_X4_manyWaiting (f0.ext (EB.tr (E1.tr E6))) ⟨(Lay_X4_17 (f0.ext (EB.tr (E1.tr E6)))).2.1, (Lay_X4_17 (f0.ext (EB.tr (E1.tr E6)))).2.2⟩ l hw) (As := [rV (x0 + 5)]) (rest := [iV 0, iV x2]) rfl xc10 (Lay_X4.tag (f0.ext (EB.tr (E1.tr E6)))) (lw_V q2175 q2177 qs87 q129 q2178) hy_X4_manyWaiting rfl rfl (Nat.le_of_ble_eq_true rfl) (Nat.le_of_ble_eq_true rfl) (Nat.le_of_ble_eq_true rfl) (kkI (fun r19 m19 E19 hw => ?_))
    have hw := hw E19
    refine x_iconst HE dX4_row_22 (by decide) ?_
    obtain ⟨v23, hw⟩ := hw
    refine x_isub HE dX4_row_23 v23 ?_
    refine x_callS HE dX4_row_24 rfl (fun l => k_X4_within  l hw) (As := [iV x2, iV 0, iV (r19 - 1)]) (rest := []) rfl (lw_S q1959 q1960 q129 q1961) hy_X4_within.2 rfl rfl (Nat.le_of_ble_eq_true rfl) (Nat.le_of_ble_eq_true rfl) (Nat.le_of_ble_eq_true rfl) (kkI (fun r24 m24 E24 hw => ?_))
    have hw := hw E24
    refine x_if_ne HE 36 dX4_row_27 (by decide) (fun c27 => ?_) (fun c27 => ?_)
    · have hw := hw.1 c27
      refine x_aload_n HE 0 dX4_row_36 rfl rfl ?_
      refine x_iload_n HE 1 dX4_row_37 rfl rfl ?_
      refine x_callV HE dX4_row_38 rfl (fun l => k_X4_rowWhy (f0.ext (EB.tr (E1.tr (E6.tr (E19.tr E24))))) l hw) (As := [iV x1]) (rest := []) rfl xc10 (Lay_X4.tag (f0.ext (EB.tr (E1.tr (E6.tr (E19.tr E24)))))) (lw_V q2404 q2406 qs115 q129 q2407) hy_X4_rowWhy rfl rfl (Nat.le_of_ble_eq_true rfl) (Nat.le_of_ble_eq_true rfl) (Nat.le_of_ble_eq_true rfl) (kkI (fun r38 m38 E38 hw => ?_))
      have hw := hw E38
      refine x_istore_n HE 3 (lo' := [some (rV x0), some (iV x1), some (iV x2), some (iV r38)]) dX4_row_41 rfl (Nat.le_of_ble_eq_true rfl) rfl ?_
      refine x_iload_n HE 3 dX4_row_42 rfl rfl ?_
      refine x_if_eq HE 54 dX4_row_43 (by decide) (fun c43 => ?_) (fun c43 => ?_)
      · have hw := hw.1 c43
        refine x_aload_n HE 0 dX4_row_54 rfl rfl ?_
        refine x_gR HE dX4_row_55 fd_X4_32 q1869 (Or.inl rfl) (Lay_X4.tag (f0.ext (EB.tr (E1.tr (E6.tr (E19.tr (E24.tr E38))))))) (Lay_X4_32 (f0.ext (EB.tr (E1.tr (E6.tr (E19.tr (E24.tr E38))))))).1 ?_
        refine x_iload_n HE 2 dX4_row_58 rfl rfl ?_
        obtain ⟨i59, hw⟩ := hw
        refine x_iald HE dX4_row_59 (t := 1) (by decide) ((Lay_X4_32 (f0.ext (EB.tr (E1.tr (E6.tr (E19.tr (E24.tr E38))))))).2.1) (ix_of ((Lay_X4_32 (f0.ext (EB.tr (E1.tr (E6.tr (E19.tr (E24.tr E38))))))).2.2) i59) rfl ?_
        refine Wx.mask [true, true, true, false] (lo2 := [some (rV x0), some (iV x1), some (iV x2), none]) rfl ?_
        exact w_X4_row_60 HE hr f0 hw
      · have hw := hw.2 c43
        refine x_aload_n HE 0 dX4_row_46 rfl rfl ?_
        refine x_iload_n HE 3 dX4_row_47 rfl rfl ?_
        refine x_callV HE dX4_row_48 rfl (fun l => k_X4_no (f0.ext (EB.tr (E1.tr (E6.tr (E19.tr (E24.tr E38)))))) l hw) (As := [iV r38]) (rest := []) rfl xc10 (Lay_X4.tag (f0.ext (EB.tr (E1.tr (E6.tr (E19.tr (E24.tr E38))))))) (lw_V q1962 q1964 qs56 q129 q1965) hy_X4_no rfl rfl (Nat.le_of_ble_eq_true rfl) (Nat.le_of_ble_eq_true rfl) (Nat.le_of_ble_eq_true rfl) (kkI (fun r48 m48 E48 hw => ?_))
        have hw := hw E48
        refine x_goto HE 60 dX4_row_51 (by decide) ?_
        refine Wx.mask [true, true, true, false] (lo2 := [some (rV x0), some (iV x1), some (iV x2), none]) rfl ?_
        exact w_X4_row_60 HE hr f0 hw
    · have hw := hw.2 c27
      exact w_X4_row_30 HE hr f0 hw
theorem k_X4_row {G : GT} {x0 x1 x2 : Int} {Q : Int → Hp → Prop} {h : Hp} (f0 : Lay_X4 h x0) (l : Launch) (hw : g_X4_row x0 x1 x2 Q h) : XM G l yX4_row cX4_row 4 (some .int) 13 350 [rV x0, iV x1, iV x2] (QI Q) h :=
  XM.of (by decide) (Nat.le_of_ble_eq_true rfl) (fun X HE hr hn => w_X4_row_0 HE hr f0 hw)
def g_X4_rowSum_b26 (x0 x1 : Int) (Q : Int → Hp → Prop) (s0 : Int) (h : Hp) : Prop :=
  Q s0 h
theorem w_X4_rowSum_26 {G : GT} {X : ET} {h0 : Hp} {x0 x1 : Int} (HE : XE G X cX4_rowSum 3 RX4 13 350 h0) (hr : XR X (some .int)) (f0 : Lay_X4 h0 x0) {Q : Int → Hp → Prop} {s0 : Int} {h : Hp} (hw : g_X4_rowSum_b26 x0 x1 Q s0 h) : Wx G X h0 (QI Q) h 26 [some (rV x0), some (iV x1), none] [iV s0] := by
  refine Wx.start (fun EB => ?_)
  unfold g_X4_rowSum_b26 at hw
  exact x_iret HE hr dX4_rowSum_26 hw
def g_X4_rowSum (x0 x1 : Int) (Q : Int → Hp → Prop) (h : Hp) : Prop :=
  g_X4_good x0 (fun m1 => Ext h m1 → (g_X4_rowWhy x0 x1 (fun r6 m6 => Ext m1 m6 → (((r6 = 0) → (g_X4_rowSum_b26 x0 x1 Q (hF m6 x0 33) m6)) ∧ ((r6 ≠ 0) → (g_X4_no x0 r6 (fun r16 m16 => Ext m6 m16 → (g_X4_rowSum_b26 x0 x1 Q r16 m16)) m6)))) m1)) h
theorem w_X4_rowSum_0 {G : GT} {X : ET} {h0 : Hp} {x0 x1 : Int} (HE : XE G X cX4_rowSum 3 RX4 13 350 h0) (hr : XR X (some .int)) (f0 : Lay_X4 h0 x0) {Q : Int → Hp → Prop} {h : Hp} (hw : g_X4_rowSum x0 x1 Q h) : Wx G X h0 (QI Q) h 0 [some (rV x0), some (iV x1), none] [] := by
  refine Wx.start (fun EB => ?_)
  unfold g_X4_rowSum at hw
  refine x_aload_n HE 0 dX4_rowSum_0 rfl rfl ?_
  refine x_callV HE dX4_rowSum_1 rfl (fun l => k_X4_good (f0.ext EB) l hw) (As := []) (rest := []) rfl xc10 (Lay_X4.tag (f0.ext EB)) (lw_V q1955 q1957 qs55 q129 q1958) hy_X4_good rfl rfl (Nat.le_of_ble_eq_true rfl) (Nat.le_of_ble_eq_true rfl) (Nat.le_of_ble_eq_true rfl) (kkV (fun m1 E1 hw => ?_))
  have hw := hw E1
  refine x_aload_n HE 0 dX4_rowSum_4 rfl rfl ?_
  refine x_iload_n HE 1 dX4_rowSum_5 rfl rfl ?_
  refine x_callV HE dX4_rowSum_6 rfl (fun l => k_X4_rowWhy (f0.ext (EB.tr E1)) l hw) (As := [iV x1]) (rest := []) rfl xc10 (Lay_X4.tag (f0.ext (EB.tr E1))) (lw_V q2404 q2406 qs115 q129 q2407) hy_X4_rowWhy rfl rfl (Nat.le_of_ble_eq_true rfl) (Nat.le_of_ble_eq_true rfl) (Nat.le_of_ble_eq_true rfl) (kkI (fun r6 m6 E6 hw => ?_))
  have hw := hw E6
  refine x_istore_n HE 2 (lo' := [some (rV x0), some (iV x1), some (iV r6)]) dX4_rowSum_9 rfl (Nat.le_of_ble_eq_true rfl) rfl ?_
  refine x_iload_n HE 2 dX4_rowSum_10 rfl rfl ?_
  refine x_if_eq HE 22 dX4_rowSum_11 (by decide) (fun c11 => ?_) (fun c11 => ?_)
  · have hw := hw.1 c11
    refine x_aload_n HE 0 dX4_rowSum_22 rfl rfl ?_
    refine x_gI HE dX4_rowSum_23 fd_X4_33 q1870 (Or.inl rfl) (Lay_X4.tag (f0.ext (EB.tr (E1.tr E6)))) rfl ?_
    refine Wx.mask [true, true, false] (lo2 := [some (rV x0), some (iV x1), none]) rfl ?_
    exact w_X4_rowSum_26 HE hr f0 hw
  · have hw := hw.2 c11
    refine x_aload_n HE 0 dX4_rowSum_14 rfl rfl ?_
    refine x_iload_n HE 2 dX4_rowSum_15 rfl rfl ?_
    refine x_callV HE dX4_rowSum_16 rfl (fun l => k_X4_no (f0.ext (EB.tr (E1.tr E6))) l hw) (As := [iV r6]) (rest := []) rfl xc10 (Lay_X4.tag (f0.ext (EB.tr (E1.tr E6)))) (lw_V q1962 q1964 qs56 q129 q1965) hy_X4_no rfl rfl (Nat.le_of_ble_eq_true rfl) (Nat.le_of_ble_eq_true rfl) (Nat.le_of_ble_eq_true rfl) (kkI (fun r16 m16 E16 hw => ?_))
    have hw := hw E16
    refine x_goto HE 26 dX4_rowSum_19 (by decide) ?_
    refine Wx.mask [true, true, false] (lo2 := [some (rV x0), some (iV x1), none]) rfl ?_
    exact w_X4_rowSum_26 HE hr f0 hw
theorem k_X4_rowSum {G : GT} {x0 x1 : Int} {Q : Int → Hp → Prop} {h : Hp} (f0 : Lay_X4 h x0) (l : Launch) (hw : g_X4_rowSum x0 x1 Q h) : XM G l yX4_rowSum cX4_rowSum 3 (some .int) 13 350 [rV x0, iV x1] (QI Q) h :=
  XM.of (by decide) (Nat.le_of_ble_eq_true rfl) (fun X HE hr hn => w_X4_rowSum_0 HE hr f0 hw)
def g_X4_layTellings_b240 (x0 x1 : Int) (Q : Int → Hp → Prop) (l2 : Int) (h : Hp) : Prop :=
  (l2 = 0 ∨ l2 = 1) ∧ Q l2 h
theorem w_X4_layTellings_240 {G : GT} {X : ET} {h0 : Hp} {x0 x1 : Int} (HE : XE G X cX4_layTellings 5 RX4 1 21 h0) (hr : XR X (some .boolean)) (f0 : Lay_X4 h0 x0) {Q : Int → Hp → Prop} {l2 : Int} {h : Hp} (hw : g_X4_layTellings_b240 x0 x1 Q l2 h) : Wx G X h0 (QI Q) h 240 [some (rV x0), some (iV x1), some (iV l2), none, none] [] := by
  refine Wx.start (fun EB => ?_)
  unfold g_X4_layTellings_b240 at hw
  refine x_iload_n HE 2 dX4_layTellings_240 rfl rfl ?_
  exact x_zret HE hr dX4_layTellings_241 hw.1 hw.2
def g_X4_layTellings_b233 (x0 x1 : Int) (Q : Int → Hp → Prop) (K206 : Int → Int → Hp → Prop) (l3 s0 : Int) (h : Hp) : Prop :=
  (i32 (l3 + 1)) ∧ (∀ y234 : Int, y234 = l3 + 1 → (K206 s0 y234 h))
theorem w_X4_layTellings_233 {G : GT} {X : ET} {h0 : Hp} {x0 x1 : Int} (HE : XE G X cX4_layTellings 5 RX4 1 21 h0) (hr : XR X (some .boolean)) (f0 : Lay_X4 h0 x0) {Q : Int → Hp → Prop} {K206 : Int → Int → Hp → Prop} (hK206 : ∀ (l2 l3 : Int) (h : Hp), K206 l2 l3 h → Wx G X h0 (QI Q) h 206 [some (rV x0), some (iV x1), some (iV l2), some (iV l3), none] []) {l3 s0 : Int} {h : Hp} (hw : g_X4_layTellings_b233 x0 x1 Q K206 l3 s0 h) : Wx G X h0 (QI Q) h 233 [some (rV x0), some (iV x1), none, some (iV l3), none] [iV s0] := by
  refine Wx.start (fun EB => ?_)
  unfold g_X4_layTellings_b233 at hw
  refine x_istore_n HE 2 (lo' := [some (rV x0), some (iV x1), some (iV s0), some (iV l3), none]) dX4_layTellings_233 rfl (Nat.le_of_ble_eq_true rfl) rfl ?_
  obtain ⟨v234, hw⟩ := hw
  refine x_iincN HE (fun y234 => [some (rV x0), some (iV x1), some (iV s0), some (iV y234), none]) dX4_layTellings_234 rfl v234 (Nat.le_of_ble_eq_true rfl) (fun _ => rfl) (fun y234 ey234 => ?_)
  have hw := hw y234 ey234
  refine x_goto HE 206 dX4_layTellings_237 (by decide) ?_
  exact hK206 _ _ _ hw
def g_X4_layTellings_b232 (x0 x1 : Int) (Q : Int → Hp → Prop) (K206 : Int → Int → Hp → Prop) (l3 : Int) (h : Hp) : Prop :=
  g_X4_layTellings_b233 x0 x1 Q K206 l3 0 h
theorem w_X4_layTellings_232 {G : GT} {X : ET} {h0 : Hp} {x0 x1 : Int} (HE : XE G X cX4_layTellings 5 RX4 1 21 h0) (hr : XR X (some .boolean)) (f0 : Lay_X4 h0 x0) {Q : Int → Hp → Prop} {K206 : Int → Int → Hp → Prop} (hK206 : ∀ (l2 l3 : Int) (h : Hp), K206 l2 l3 h → Wx G X h0 (QI Q) h 206 [some (rV x0), some (iV x1), some (iV l2), some (iV l3), none] []) {l3 : Int} {h : Hp} (hw : g_X4_layTellings_b232 x0 x1 Q K206 l3 h) : Wx G X h0 (QI Q) h 232 [some (rV x0), some (iV x1), none, some (iV l3), none] [] := by
  refine Wx.start (fun EB => ?_)
  unfold g_X4_layTellings_b232 at hw
  refine x_iconst HE dX4_layTellings_232 (by decide) ?_
  exact w_X4_layTellings_233 HE hr f0 hK206 hw
def g_X4_layTellings_L206 (x0 x1 : Int) (Q : Int → Hp → Prop) (K206 : Int → Int → Hp → Prop) (l2 l3 : Int) (h : Hp) : Prop :=
  ((10 ≤ l3) → (g_X4_layTellings_b240 x0 x1 Q l2 h)) ∧ ((l3 < 10) → (((l2 = 0) → (g_X4_layTellings_b232 x0 x1 Q K206 l3 h)) ∧ ((l2 ≠ 0) → ((i32 (11 * l3)) ∧ (((0 : Int) ≤ (11 * l3) ∧ (11 * l3) < 100) ∧ ((((hA h (x0 + 15) (11 * l3)) ≠ 0) → (g_X4_layTellings_b232 x0 x1 Q K206 l3 h)) ∧ (((hA h (x0 + 15) (11 * l3)) = 0) → (g_X4_layTellings_b233 x0 x1 Q K206 l3 1 h))))))))
theorem w_X4_layTellings_206 {G : GT} {X : ET} {h0 : Hp} {x0 x1 : Int} (HE : XE G X cX4_layTellings 5 RX4 1 21 h0) (hr : XR X (some .boolean)) (f0 : Lay_X4 h0 x0) {Q : Int → Hp → Prop} {K206 : Int → Int → Hp → Prop} (hK206 : ∀ (l2 l3 : Int) (h : Hp), K206 l2 l3 h → Wx G X h0 (QI Q) h 206 [some (rV x0), some (iV x1), some (iV l2), some (iV l3), none] []) {l2 l3 : Int} {h : Hp} (hw : g_X4_layTellings_L206 x0 x1 Q K206 l2 l3 h) : Wx G X h0 (QI Q) h 206 [some (rV x0), some (iV x1), some (iV l2), some (iV l3), none] [] := by
  refine Wx.start (fun EB => ?_)
  unfold g_X4_layTellings_L206 at hw
  refine x_iload_n HE 3 dX4_layTellings_206 rfl rfl ?_
  refine x_bipush HE dX4_layTellings_207 (by decide) ?_
  refine x_ic_ge HE 240 dX4_layTellings_209 (by decide) (fun c209 => ?_) (fun c209 => ?_)
  · have hw := hw.1 c209
    refine Wx.mask [true, true, true, false, true] (lo2 := [some (rV x0), some (iV x1), some (iV l2), none, none]) rfl ?_
    exact w_X4_layTellings_240 HE hr f0 hw
  · have hw := hw.2 c209
    refine x_iload_n HE 2 dX4_layTellings_212 rfl rfl ?_
    refine x_if_eq HE 232 dX4_layTellings_213 (by decide) (fun c213 => ?_) (fun c213 => ?_)
    · have hw := hw.1 c213
      refine Wx.mask [true, true, false, true, true] (lo2 := [some (rV x0), some (iV x1), none, some (iV l3), none]) rfl ?_
      exact w_X4_layTellings_232 HE hr f0 hK206 hw
    · have hw := hw.2 c213
      refine x_aload_n HE 0 dX4_layTellings_216 rfl rfl ?_
      refine x_gR HE dX4_layTellings_217 fd_X4_34 q1871 (Or.inl rfl) (Lay_X4.tag (f0.ext EB)) (Lay_X4_34 (f0.ext EB)).1 ?_
      refine x_bipush HE dX4_layTellings_220 (by decide) ?_
      refine x_iload_n HE 3 dX4_layTellings_222 rfl rfl ?_
      obtain ⟨v223, hw⟩ := hw
      refine x_imul HE dX4_layTellings_223 v223 ?_
      obtain ⟨i224, hw⟩ := hw
      refine x_zald HE dX4_layTellings_224 ((Lay_X4_34 (f0.ext EB)).2.1) (ix_of ((Lay_X4_34 (f0.ext EB)).2.2) i224) rfl ?_
      refine x_if_ne HE 232 dX4_layTellings_225 (by decide) (fun c225 => ?_) (fun c225 => ?_)
      · have hw := hw.1 c225
        refine Wx.mask [true, true, false, true, true] (lo2 := [some (rV x0), some (iV x1), none, some (iV l3), none]) rfl ?_
        exact w_X4_layTellings_232 HE hr f0 hK206 hw
      · have hw := hw.2 c225
        refine x_iconst HE dX4_layTellings_228 (by decide) ?_
        refine x_goto HE 233 dX4_layTellings_229 (by decide) ?_
        refine Wx.mask [true, true, false, true, true] (lo2 := [some (rV x0), some (iV x1), none, some (iV l3), none]) rfl ?_
        exact w_X4_layTellings_233 HE hr f0 hK206 hw
theorem wl_X4_layTellings_206 {G : GT} {X : ET} {h0 : Hp} {x0 x1 : Int} (HE : XE G X cX4_layTellings 5 RX4 1 21 h0) (hr : XR X (some .boolean)) (f0 : Lay_X4 h0 x0) {Q : Int → Hp → Prop} {l2 l3 : Int} {h : Hp} (hw : Lp2 (g_X4_layTellings_L206 x0 x1 Q) l2 l3 h) : Wx G X h0 (QI Q) h 206 [some (rV x0), some (iV x1), some (iV l2), some (iV l3), none] [] := by
  obtain ⟨n, hw⟩ := hw
  induction n generalizing l2 l3 h with
  | zero => exact hw.elim
  | succ n ih => exact w_X4_layTellings_206 HE hr f0 (fun _ _ _ hk => ih hk) hw
def g_X4_layTellings_b202 (x0 x1 : Int) (Q : Int → Hp → Prop) (h : Hp) : Prop :=
  Lp2 (g_X4_layTellings_L206 x0 x1 Q) 1 0 h
theorem w_X4_layTellings_202 {G : GT} {X : ET} {h0 : Hp} {x0 x1 : Int} (HE : XE G X cX4_layTellings 5 RX4 1 21 h0) (hr : XR X (some .boolean)) (f0 : Lay_X4 h0 x0) {Q : Int → Hp → Prop} {h : Hp} (hw : g_X4_layTellings_b202 x0 x1 Q  h) : Wx G X h0 (QI Q) h 202 [some (rV x0), some (iV x1), none, none, none] [] := by
  refine Wx.start (fun EB => ?_)
  unfold g_X4_layTellings_b202 at hw
  refine x_iconst HE dX4_layTellings_202 (by decide) ?_
  refine x_istore_n HE 2 (lo' := [some (rV x0), some (iV x1), some (iV 1), none, none]) dX4_layTellings_203 rfl (Nat.le_of_ble_eq_true rfl) rfl ?_
  refine x_iconst HE dX4_layTellings_204 (by decide) ?_
  refine x_istore_n HE 3 (lo' := [some (rV x0), some (iV x1), some (iV 1), some (iV 0), none]) dX4_layTellings_205 rfl (Nat.le_of_ble_eq_true rfl) rfl ?_
  exact wl_X4_layTellings_206 HE hr f0 hw
def g_X4_layTellings_b196 (x0 x1 : Int) (Q : Int → Hp → Prop) (K99 : Int → Hp → Prop) (l2 : Int) (h : Hp) : Prop :=
  (i32 (l2 + 1)) ∧ (∀ y196 : Int, y196 = l2 + 1 → (K99 y196 h))
theorem w_X4_layTellings_196 {G : GT} {X : ET} {h0 : Hp} {x0 x1 : Int} (HE : XE G X cX4_layTellings 5 RX4 1 21 h0) (hr : XR X (some .boolean)) (f0 : Lay_X4 h0 x0) {Q : Int → Hp → Prop} {K99 : Int → Hp → Prop} (hK99 : ∀ (l2 : Int) (h : Hp), K99 l2 h → Wx G X h0 (QI Q) h 99 [some (rV x0), some (iV x1), some (iV l2), none, none] []) {l2 : Int} {h : Hp} (hw : g_X4_layTellings_b196 x0 x1 Q K99 l2 h) : Wx G X h0 (QI Q) h 196 [some (rV x0), some (iV x1), some (iV l2), none, none] [] := by
  refine Wx.start (fun EB => ?_)
  unfold g_X4_layTellings_b196 at hw
  obtain ⟨v196, hw⟩ := hw
  refine x_iincN HE (fun y196 => [some (rV x0), some (iV x1), some (iV y196), none, none]) dX4_layTellings_196 rfl v196 (Nat.le_of_ble_eq_true rfl) (fun _ => rfl) (fun y196 ey196 => ?_)
  have hw := hw y196 ey196
  refine x_goto HE 99 dX4_layTellings_199 (by decide) ?_
  exact hK99 _ _ hw
def g_X4_layTellings_b190 (x0 x1 : Int) (Q : Int → Hp → Prop) (K99 : Int → Hp → Prop) (K107 : Int → Int → Hp → Prop) (l2 l3 : Int) (h : Hp) : Prop :=
  (i32 (l3 + 1)) ∧ (∀ y190 : Int, y190 = l3 + 1 → (K107 l2 y190 h))
theorem w_X4_layTellings_190 {G : GT} {X : ET} {h0 : Hp} {x0 x1 : Int} (HE : XE G X cX4_layTellings 5 RX4 1 21 h0) (hr : XR X (some .boolean)) (f0 : Lay_X4 h0 x0) {Q : Int → Hp → Prop} {K99 : Int → Hp → Prop} (hK99 : ∀ (l2 : Int) (h : Hp), K99 l2 h → Wx G X h0 (QI Q) h 99 [some (rV x0), some (iV x1), some (iV l2), none, none] []) {K107 : Int → Int → Hp → Prop} (hK107 : ∀ (l2 l3 : Int) (h : Hp), K107 l2 l3 h → Wx G X h0 (QI Q) h 107 [some (rV x0), some (iV x1), some (iV l2), some (iV l3), none] []) {l2 l3 : Int} {h : Hp} (hw : g_X4_layTellings_b190 x0 x1 Q K99 K107 l2 l3 h) : Wx G X h0 (QI Q) h 190 [some (rV x0), some (iV x1), some (iV l2), some (iV l3), none] [] := by
  refine Wx.start (fun EB => ?_)
  unfold g_X4_layTellings_b190 at hw
  obtain ⟨v190, hw⟩ := hw
  refine x_iincN HE (fun y190 => [some (rV x0), some (iV x1), some (iV l2), some (iV y190), none]) dX4_layTellings_190 rfl v190 (Nat.le_of_ble_eq_true rfl) (fun _ => rfl) (fun y190 ey190 => ?_)
  have hw := hw y190 ey190
  refine x_goto HE 107 dX4_layTellings_193 (by decide) ?_
  exact hK107 _ _ _ hw
def g_X4_layTellings_b183 (x0 x1 : Int) (Q : Int → Hp → Prop) (K99 : Int → Hp → Prop) (K107 : Int → Int → Hp → Prop) (K116 : Int → Int → Int → Hp → Prop) (l2 l3 l4 s0 s1 s2 : Int) (h : Hp) : Prop :=
  (hT h s0 = 3) ∧ (((0 : Int) ≤ s1 ∧ s1 < hL h s0) ∧ ((s2 = 0 ∨ s2 = 1) ∧ (∀ m183 : Hp, m183 = setA h s0 s1 s2 → ((i32 (l4 + 1)) ∧ (∀ y184 : Int, y184 = l4 + 1 → (K116 l2 l3 y184 m183))))))
theorem w_X4_layTellings_183 {G : GT} {X : ET} {h0 : Hp} {x0 x1 : Int} (HE : XE G X cX4_layTellings 5 RX4 1 21 h0) (hr : XR X (some .boolean)) (f0 : Lay_X4 h0 x0) {Q : Int → Hp → Prop} {K99 : Int → Hp → Prop} (hK99 : ∀ (l2 : Int) (h : Hp), K99 l2 h → Wx G X h0 (QI Q) h 99 [some (rV x0), some (iV x1), some (iV l2), none, none] []) {K107 : Int → Int → Hp → Prop} (hK107 : ∀ (l2 l3 : Int) (h : Hp), K107 l2 l3 h → Wx G X h0 (QI Q) h 107 [some (rV x0), some (iV x1), some (iV l2), some (iV l3), none] []) {K116 : Int → Int → Int → Hp → Prop} (hK116 : ∀ (l2 l3 l4 : Int) (h : Hp), K116 l2 l3 l4 h → Wx G X h0 (QI Q) h 116 [some (rV x0), some (iV x1), some (iV l2), some (iV l3), some (iV l4)] []) {l2 l3 l4 s0 s1 s2 : Int} {h : Hp} (hw : g_X4_layTellings_b183 x0 x1 Q K99 K107 K116 l2 l3 l4 s0 s1 s2 h) : Wx G X h0 (QI Q) h 183 [some (rV x0), some (iV x1), some (iV l2), some (iV l3), some (iV l4)] [iV s2, iV s1, rV s0] := by
  refine Wx.start (fun EB => ?_)
  unfold g_X4_layTellings_b183 at hw
  obtain ⟨v183, hw⟩ := hw
  obtain ⟨i183, hw⟩ := hw
  obtain ⟨b183, hw⟩ := hw
  refine x_zast HE dX4_layTellings_183 v183 i183 b183 (fun m183 em183 E183 => ?_)
  have hw := hw m183 em183
  obtain ⟨v184, hw⟩ := hw
  refine x_iincN HE (fun y184 => [some (rV x0), some (iV x1), some (iV l2), some (iV l3), some (iV y184)]) dX4_layTellings_184 rfl v184 (Nat.le_of_ble_eq_true rfl) (fun _ => rfl) (fun y184 ey184 => ?_)
  have hw := hw y184 ey184
  refine x_goto HE 116 dX4_layTellings_187 (by decide) ?_
  exact hK116 _ _ _ _ hw
def g_X4_layTellings_b182 (x0 x1 : Int) (Q : Int → Hp → Prop) (K99 : Int → Hp → Prop) (K107 : Int → Int → Hp → Prop) (K116 : Int → Int → Int → Hp → Prop) (l2 l3 l4 s0 s1 : Int) (h : Hp) : Prop :=
  g_X4_layTellings_b183 x0 x1 Q K99 K107 K116 l2 l3 l4 s0 s1 0 h
theorem w_X4_layTellings_182 {G : GT} {X : ET} {h0 : Hp} {x0 x1 : Int} (HE : XE G X cX4_layTellings 5 RX4 1 21 h0) (hr : XR X (some .boolean)) (f0 : Lay_X4 h0 x0) {Q : Int → Hp → Prop} {K99 : Int → Hp → Prop} (hK99 : ∀ (l2 : Int) (h : Hp), K99 l2 h → Wx G X h0 (QI Q) h 99 [some (rV x0), some (iV x1), some (iV l2), none, none] []) {K107 : Int → Int → Hp → Prop} (hK107 : ∀ (l2 l3 : Int) (h : Hp), K107 l2 l3 h → Wx G X h0 (QI Q) h 107 [some (rV x0), some (iV x1), some (iV l2), some (iV l3), none] []) {K116 : Int → Int → Int → Hp → Prop} (hK116 : ∀ (l2 l3 l4 : Int) (h : Hp), K116 l2 l3 l4 h → Wx G X h0 (QI Q) h 116 [some (rV x0), some (iV x1), some (iV l2), some (iV l3), some (iV l4)] []) {l2 l3 l4 s0 s1 : Int} {h : Hp} (hw : g_X4_layTellings_b182 x0 x1 Q K99 K107 K116 l2 l3 l4 s0 s1 h) : Wx G X h0 (QI Q) h 182 [some (rV x0), some (iV x1), some (iV l2), some (iV l3), some (iV l4)] [iV s1, rV s0] := by
  refine Wx.start (fun EB => ?_)
  unfold g_X4_layTellings_b182 at hw
  refine x_iconst HE dX4_layTellings_182 (by decide) ?_
  exact w_X4_layTellings_183 HE hr f0 hK99 hK107 hK116 hw
def g_X4_layTellings_b178 (x0 x1 : Int) (Q : Int → Hp → Prop) (K99 : Int → Hp → Prop) (K107 : Int → Int → Hp → Prop) (K116 : Int → Int → Int → Hp → Prop) (l2 l3 l4 s0 s1 : Int) (h : Hp) : Prop :=
  g_X4_layTellings_b183 x0 x1 Q K99 K107 K116 l2 l3 l4 s0 s1 1 h
theorem w_X4_layTellings_178 {G : GT} {X : ET} {h0 : Hp} {x0 x1 : Int} (HE : XE G X cX4_layTellings 5 RX4 1 21 h0) (hr : XR X (some .boolean)) (f0 : Lay_X4 h0 x0) {Q : Int → Hp → Prop} {K99 : Int → Hp → Prop} (hK99 : ∀ (l2 : Int) (h : Hp), K99 l2 h → Wx G X h0 (QI Q) h 99 [some (rV x0), some (iV x1), some (iV l2), none, none] []) {K107 : Int → Int → Hp → Prop} (hK107 : ∀ (l2 l3 : Int) (h : Hp), K107 l2 l3 h → Wx G X h0 (QI Q) h 107 [some (rV x0), some (iV x1), some (iV l2), some (iV l3), none] []) {K116 : Int → Int → Int → Hp → Prop} (hK116 : ∀ (l2 l3 l4 : Int) (h : Hp), K116 l2 l3 l4 h → Wx G X h0 (QI Q) h 116 [some (rV x0), some (iV x1), some (iV l2), some (iV l3), some (iV l4)] []) {l2 l3 l4 s0 s1 : Int} {h : Hp} (hw : g_X4_layTellings_b178 x0 x1 Q K99 K107 K116 l2 l3 l4 s0 s1 h) : Wx G X h0 (QI Q) h 178 [some (rV x0), some (iV x1), some (iV l2), some (iV l3), some (iV l4)] [iV s1, rV s0] := by
  refine Wx.start (fun EB => ?_)
  unfold g_X4_layTellings_b178 at hw
  refine x_iconst HE dX4_layTellings_178 (by decide) ?_
  refine x_goto HE 183 dX4_layTellings_179 (by decide) ?_
  exact w_X4_layTellings_183 HE hr f0 hK99 hK107 hK116 hw
def g_X4_layTellings_L116 (x0 x1 : Int) (Q : Int → Hp → Prop) (K99 : Int → Hp → Prop) (K107 : Int → Int → Hp → Prop) (K116 : Int → Int → Int → Hp → Prop) (l2 l3 l4 : Int) (h : Hp) : Prop :=
  ((10 ≤ l4) → (g_X4_layTellings_b190 x0 x1 Q K99 K107 l2 l3 h)) ∧ ((l4 < 10) → ((i32 (10 * l3)) ∧ ((i32 ((10 * l3) + l4)) ∧ ((i32 (10 * l3)) ∧ ((i32 ((10 * l3) + l4)) ∧ (((0 : Int) ≤ ((10 * l3) + l4) ∧ ((10 * l3) + l4) < 100) ∧ ((((hA h (x0 + 15) ((10 * l3) + l4)) ≠ 0) → (g_X4_layTellings_b178 x0 x1 Q K99 K107 K116 l2 l3 l4 (x0 + 15) ((10 * l3) + l4) h)) ∧ (((hA h (x0 + 15) ((10 * l3) + l4)) = 0) → ((i32 (10 * l3)) ∧ ((i32 ((10 * l3) + l2)) ∧ (((0 : Int) ≤ ((10 * l3) + l2) ∧ ((10 * l3) + l2) < 100) ∧ ((((hA h (x0 + 15) ((10 * l3) + l2)) = 0) → (g_X4_layTellings_b182 x0 x1 Q K99 K107 K116 l2 l3 l4 (x0 + 15) ((10 * l3) + l4) h)) ∧ (((hA h (x0 + 15) ((10 * l3) + l2)) ≠ 0) → ((i32 (10 * l2)) ∧ ((i32 ((10 * l2) + l4)) ∧ (((0 : Int) ≤ ((10 * l2) + l4) ∧ ((10 * l2) + l4) < 100) ∧ ((((hA h (x0 + 15) ((10 * l2) + l4)) = 0) → (g_X4_layTellings_b182 x0 x1 Q K99 K107 K116 l2 l3 l4 (x0 + 15) ((10 * l3) + l4) h)) ∧ (((hA h (x0 + 15) ((10 * l2) + l4)) ≠ 0) → (g_X4_layTellings_b178 x0 x1 Q K99 K107 K116 l2 l3 l4 (x0 + 15) ((10 * l3) + l4) h)))))))))))))))))))
theorem w_X4_layTellings_116 {G : GT} {X : ET} {h0 : Hp} {x0 x1 : Int} (HE : XE G X cX4_layTellings 5 RX4 1 21 h0) (hr : XR X (some .boolean)) (f0 : Lay_X4 h0 x0) {Q : Int → Hp → Prop} {K99 : Int → Hp → Prop} (hK99 : ∀ (l2 : Int) (h : Hp), K99 l2 h → Wx G X h0 (QI Q) h 99 [some (rV x0), some (iV x1), some (iV l2), none, none] []) {K107 : Int → Int → Hp → Prop} (hK107 : ∀ (l2 l3 : Int) (h : Hp), K107 l2 l3 h → Wx G X h0 (QI Q) h 107 [some (rV x0), some (iV x1), some (iV l2), some (iV l3), none] []) {K116 : Int → Int → Int → Hp → Prop} (hK116 : ∀ (l2 l3 l4 : Int) (h : Hp), K116 l2 l3 l4 h → Wx G X h0 (QI Q) h 116 [some (rV x0), some (iV x1), some (iV l2), some (iV l3), some (iV l4)] []) {l2 l3 l4 : Int} {h : Hp} (hw : g_X4_layTellings_L116 x0 x1 Q K99 K107 K116 l2 l3 l4 h) : Wx G X h0 (QI Q) h 116 [some (rV x0), some (iV x1), some (iV l2), some (iV l3), some (iV l4)] [] := by
  refine Wx.start (fun EB => ?_)
  unfold g_X4_layTellings_L116 at hw
  refine x_iload HE dX4_layTellings_116 rfl ?_
  refine x_bipush HE dX4_layTellings_118 (by decide) ?_
  refine x_ic_ge HE 190 dX4_layTellings_120 (by decide) (fun c120 => ?_) (fun c120 => ?_)
  · have hw := hw.1 c120
    refine Wx.mask [true, true, true, true, false] (lo2 := [some (rV x0), some (iV x1), some (iV l2), some (iV l3), none]) rfl ?_
    exact w_X4_layTellings_190 HE hr f0 hK99 hK107 hw
  · have hw := hw.2 c120
    refine x_aload_n HE 0 dX4_layTellings_123 rfl rfl ?_
    refine x_gR HE dX4_layTellings_124 fd_X4_34 q1871 (Or.inl rfl) (Lay_X4.tag (f0.ext EB)) (Lay_X4_34 (f0.ext EB)).1 ?_
    refine x_bipush HE dX4_layTellings_127 (by decide) ?_
    refine x_iload_n HE 3 dX4_layTellings_129 rfl rfl ?_
    obtain ⟨v130, hw⟩ := hw
    refine x_imul HE dX4_layTellings_130 v130 ?_
    refine x_iload HE dX4_layTellings_131 rfl ?_
    obtain ⟨v133, hw⟩ := hw
    refine x_iadd HE dX4_layTellings_133 v133 ?_
    refine x_aload_n HE 0 dX4_layTellings_134 rfl rfl ?_
    refine x_gR HE dX4_layTellings_135 fd_X4_34 q1871 (Or.inl rfl) (Lay_X4.tag (f0.ext EB)) (Lay_X4_34 (f0.ext EB)).1 ?_
    refine x_bipush HE dX4_layTellings_138 (by decide) ?_
    refine x_iload_n HE 3 dX4_layTellings_140 rfl rfl ?_
    obtain ⟨v141, hw⟩ := hw
    refine x_imul HE dX4_layTellings_141 v141 ?_
    refine x_iload HE dX4_layTellings_142 rfl ?_
    obtain ⟨v144, hw⟩ := hw
    refine x_iadd HE dX4_layTellings_144 v144 ?_
    obtain ⟨i145, hw⟩ := hw
    refine x_zald HE dX4_layTellings_145 ((Lay_X4_34 (f0.ext EB)).2.1) (ix_of ((Lay_X4_34 (f0.ext EB)).2.2) i145) rfl ?_
    refine x_if_ne HE 178 dX4_layTellings_146 (by decide) (fun c146 => ?_) (fun c146 => ?_)
    · have hw := hw.1 c146
      exact w_X4_layTellings_178 HE hr f0 hK99 hK107 hK116 hw
    · have hw := hw.2 c146
      refine x_aload_n HE 0 dX4_layTellings_149 rfl rfl ?_
      refine x_gR HE dX4_layTellings_150 fd_X4_34 q1871 (Or.inl rfl) (Lay_X4.tag (f0.ext EB)) (Lay_X4_34 (f0.ext EB)).1 ?_
      refine x_bipush HE dX4_layTellings_153 (by decide) ?_
      refine x_iload_n HE 3 dX4_layTellings_155 rfl rfl ?_
      obtain ⟨v156, hw⟩ := hw
      refine x_imul HE dX4_layTellings_156 v156 ?_
      refine x_iload_n HE 2 dX4_layTellings_157 rfl rfl ?_
      obtain ⟨v158, hw⟩ := hw
      refine x_iadd HE dX4_layTellings_158 v158 ?_
      obtain ⟨i159, hw⟩ := hw
      refine x_zald HE dX4_layTellings_159 ((Lay_X4_34 (f0.ext EB)).2.1) (ix_of ((Lay_X4_34 (f0.ext EB)).2.2) i159) rfl ?_
      refine x_if_eq HE 182 dX4_layTellings_160 (by decide) (fun c160 => ?_) (fun c160 => ?_)
      · have hw := hw.1 c160
        exact w_X4_layTellings_182 HE hr f0 hK99 hK107 hK116 hw
      · have hw := hw.2 c160
        refine x_aload_n HE 0 dX4_layTellings_163 rfl rfl ?_
        refine x_gR HE dX4_layTellings_164 fd_X4_34 q1871 (Or.inl rfl) (Lay_X4.tag (f0.ext EB)) (Lay_X4_34 (f0.ext EB)).1 ?_
        refine x_bipush HE dX4_layTellings_167 (by decide) ?_
        refine x_iload_n HE 2 dX4_layTellings_169 rfl rfl ?_
        obtain ⟨v170, hw⟩ := hw
        refine x_imul HE dX4_layTellings_170 v170 ?_
        refine x_iload HE dX4_layTellings_171 rfl ?_
        obtain ⟨v173, hw⟩ := hw
        refine x_iadd HE dX4_layTellings_173 v173 ?_
        obtain ⟨i174, hw⟩ := hw
        refine x_zald HE dX4_layTellings_174 ((Lay_X4_34 (f0.ext EB)).2.1) (ix_of ((Lay_X4_34 (f0.ext EB)).2.2) i174) rfl ?_
        refine x_if_eq HE 182 dX4_layTellings_175 (by decide) (fun c175 => ?_) (fun c175 => ?_)
        · have hw := hw.1 c175
          exact w_X4_layTellings_182 HE hr f0 hK99 hK107 hK116 hw
        · have hw := hw.2 c175
          exact w_X4_layTellings_178 HE hr f0 hK99 hK107 hK116 hw
theorem wl_X4_layTellings_116 {G : GT} {X : ET} {h0 : Hp} {x0 x1 : Int} (HE : XE G X cX4_layTellings 5 RX4 1 21 h0) (hr : XR X (some .boolean)) (f0 : Lay_X4 h0 x0) {Q : Int → Hp → Prop} {K99 : Int → Hp → Prop} (hK99 : ∀ (l2 : Int) (h : Hp), K99 l2 h → Wx G X h0 (QI Q) h 99 [some (rV x0), some (iV x1), some (iV l2), none, none] []) {K107 : Int → Int → Hp → Prop} (hK107 : ∀ (l2 l3 : Int) (h : Hp), K107 l2 l3 h → Wx G X h0 (QI Q) h 107 [some (rV x0), some (iV x1), some (iV l2), some (iV l3), none] []) {l2 l3 l4 : Int} {h : Hp} (hw : Lp3 (g_X4_layTellings_L116 x0 x1 Q K99 K107) l2 l3 l4 h) : Wx G X h0 (QI Q) h 116 [some (rV x0), some (iV x1), some (iV l2), some (iV l3), some (iV l4)] [] := by
  obtain ⟨n, hw⟩ := hw
  induction n generalizing l2 l3 l4 h with
  | zero => exact hw.elim
  | succ n ih => exact w_X4_layTellings_116 HE hr f0 hK99 hK107 (fun _ _ _ _ hk => ih hk) hw
def g_X4_layTellings_L107 (x0 x1 : Int) (Q : Int → Hp → Prop) (K99 : Int → Hp → Prop) (K107 : Int → Int → Hp → Prop) (l2 l3 : Int) (h : Hp) : Prop :=
  ((10 ≤ l3) → (g_X4_layTellings_b196 x0 x1 Q K99 l2 h)) ∧ ((l3 < 10) → (Lp3 (g_X4_layTellings_L116 x0 x1 Q K99 K107) l2 l3 0 h))
theorem w_X4_layTellings_107 {G : GT} {X : ET} {h0 : Hp} {x0 x1 : Int} (HE : XE G X cX4_layTellings 5 RX4 1 21 h0) (hr : XR X (some .boolean)) (f0 : Lay_X4 h0 x0) {Q : Int → Hp → Prop} {K99 : Int → Hp → Prop} (hK99 : ∀ (l2 : Int) (h : Hp), K99 l2 h → Wx G X h0 (QI Q) h 99 [some (rV x0), some (iV x1), some (iV l2), none, none] []) {K107 : Int → Int → Hp → Prop} (hK107 : ∀ (l2 l3 : Int) (h : Hp), K107 l2 l3 h → Wx G X h0 (QI Q) h 107 [some (rV x0), some (iV x1), some (iV l2), some (iV l3), none] []) {l2 l3 : Int} {h : Hp} (hw : g_X4_layTellings_L107 x0 x1 Q K99 K107 l2 l3 h) : Wx G X h0 (QI Q) h 107 [some (rV x0), some (iV x1), some (iV l2), some (iV l3), none] [] := by
  refine Wx.start (fun EB => ?_)
  unfold g_X4_layTellings_L107 at hw
  refine x_iload_n HE 3 dX4_layTellings_107 rfl rfl ?_
  refine x_bipush HE dX4_layTellings_108 (by decide) ?_
  refine x_ic_ge HE 196 dX4_layTellings_110 (by decide) (fun c110 => ?_) (fun c110 => ?_)
  · have hw := hw.1 c110
    refine Wx.mask [true, true, true, false, true] (lo2 := [some (rV x0), some (iV x1), some (iV l2), none, none]) rfl ?_
    exact w_X4_layTellings_196 HE hr f0 hK99 hw
  · have hw := hw.2 c110
    refine x_iconst HE dX4_layTellings_113 (by decide) ?_
    refine x_istore HE (lo' := [some (rV x0), some (iV x1), some (iV l2), some (iV l3), some (iV 0)]) dX4_layTellings_114 (Nat.le_of_ble_eq_true rfl) rfl ?_
    exact wl_X4_layTellings_116 HE hr f0 hK99 hK107 hw
theorem wl_X4_layTellings_107 {G : GT} {X : ET} {h0 : Hp} {x0 x1 : Int} (HE : XE G X cX4_layTellings 5 RX4 1 21 h0) (hr : XR X (some .boolean)) (f0 : Lay_X4 h0 x0) {Q : Int → Hp → Prop} {K99 : Int → Hp → Prop} (hK99 : ∀ (l2 : Int) (h : Hp), K99 l2 h → Wx G X h0 (QI Q) h 99 [some (rV x0), some (iV x1), some (iV l2), none, none] []) {l2 l3 : Int} {h : Hp} (hw : Lp2 (g_X4_layTellings_L107 x0 x1 Q K99) l2 l3 h) : Wx G X h0 (QI Q) h 107 [some (rV x0), some (iV x1), some (iV l2), some (iV l3), none] [] := by
  obtain ⟨n, hw⟩ := hw
  induction n generalizing l2 l3 h with
  | zero => exact hw.elim
  | succ n ih => exact w_X4_layTellings_107 HE hr f0 hK99 (fun _ _ _ hk => ih hk) hw
def g_X4_layTellings_L99 (x0 x1 : Int) (Q : Int → Hp → Prop) (K99 : Int → Hp → Prop) (l2 : Int) (h : Hp) : Prop :=
  ((10 ≤ l2) → (g_X4_layTellings_b202 x0 x1 Q h)) ∧ ((l2 < 10) → (Lp2 (g_X4_layTellings_L107 x0 x1 Q K99) l2 0 h))
theorem w_X4_layTellings_99 {G : GT} {X : ET} {h0 : Hp} {x0 x1 : Int} (HE : XE G X cX4_layTellings 5 RX4 1 21 h0) (hr : XR X (some .boolean)) (f0 : Lay_X4 h0 x0) {Q : Int → Hp → Prop} {K99 : Int → Hp → Prop} (hK99 : ∀ (l2 : Int) (h : Hp), K99 l2 h → Wx G X h0 (QI Q) h 99 [some (rV x0), some (iV x1), some (iV l2), none, none] []) {l2 : Int} {h : Hp} (hw : g_X4_layTellings_L99 x0 x1 Q K99 l2 h) : Wx G X h0 (QI Q) h 99 [some (rV x0), some (iV x1), some (iV l2), none, none] [] := by
  refine Wx.start (fun EB => ?_)
  unfold g_X4_layTellings_L99 at hw
  refine x_iload_n HE 2 dX4_layTellings_99 rfl rfl ?_
  refine x_bipush HE dX4_layTellings_100 (by decide) ?_
  refine x_ic_ge HE 202 dX4_layTellings_102 (by decide) (fun c102 => ?_) (fun c102 => ?_)
  · have hw := hw.1 c102
    refine Wx.mask [true, true, false, true, true] (lo2 := [some (rV x0), some (iV x1), none, none, none]) rfl ?_
    exact w_X4_layTellings_202 HE hr f0 hw
  · have hw := hw.2 c102
    refine x_iconst HE dX4_layTellings_105 (by decide) ?_
    refine x_istore_n HE 3 (lo' := [some (rV x0), some (iV x1), some (iV l2), some (iV 0), none]) dX4_layTellings_106 rfl (Nat.le_of_ble_eq_true rfl) rfl ?_
    exact wl_X4_layTellings_107 HE hr f0 hK99 hw
theorem wl_X4_layTellings_99 {G : GT} {X : ET} {h0 : Hp} {x0 x1 : Int} (HE : XE G X cX4_layTellings 5 RX4 1 21 h0) (hr : XR X (some .boolean)) (f0 : Lay_X4 h0 x0) {Q : Int → Hp → Prop} {l2 : Int} {h : Hp} (hw : Lp1 (g_X4_layTellings_L99 x0 x1 Q) l2 h) : Wx G X h0 (QI Q) h 99 [some (rV x0), some (iV x1), some (iV l2), none, none] [] := by
  obtain ⟨n, hw⟩ := hw
  induction n generalizing l2 h with
  | zero => exact hw.elim
  | succ n ih => exact w_X4_layTellings_99 HE hr f0 (fun _ _ hk => ih hk) hw
def g_X4_layTellings_b97 (x0 x1 : Int) (Q : Int → Hp → Prop) (h : Hp) : Prop :=
  Lp1 (g_X4_layTellings_L99 x0 x1 Q) 0 h
theorem w_X4_layTellings_97 {G : GT} {X : ET} {h0 : Hp} {x0 x1 : Int} (HE : XE G X cX4_layTellings 5 RX4 1 21 h0) (hr : XR X (some .boolean)) (f0 : Lay_X4 h0 x0) {Q : Int → Hp → Prop} {h : Hp} (hw : g_X4_layTellings_b97 x0 x1 Q  h) : Wx G X h0 (QI Q) h 97 [some (rV x0), some (iV x1), none, none, none] [] := by
  refine Wx.start (fun EB => ?_)
  unfold g_X4_layTellings_b97 at hw
  refine x_iconst HE dX4_layTellings_97 (by decide) ?_
  refine x_istore_n HE 2 (lo' := [some (rV x0), some (iV x1), some (iV 0), none, none]) dX4_layTellings_98 rfl (Nat.le_of_ble_eq_true rfl) rfl ?_
  exact wl_X4_layTellings_99 HE hr f0 hw
def g_X4_layTellings_b91 (x0 x1 : Int) (Q : Int → Hp → Prop) (K23 : Int → Hp → Prop) (l2 : Int) (h : Hp) : Prop :=
  (i32 (l2 + 1)) ∧ (∀ y91 : Int, y91 = l2 + 1 → (K23 y91 h))
theorem w_X4_layTellings_91 {G : GT} {X : ET} {h0 : Hp} {x0 x1 : Int} (HE : XE G X cX4_layTellings 5 RX4 1 21 h0) (hr : XR X (some .boolean)) (f0 : Lay_X4 h0 x0) {Q : Int → Hp → Prop} {K23 : Int → Hp → Prop} (hK23 : ∀ (l2 : Int) (h : Hp), K23 l2 h → Wx G X h0 (QI Q) h 23 [some (rV x0), some (iV x1), some (iV l2), none, none] []) {l2 : Int} {h : Hp} (hw : g_X4_layTellings_b91 x0 x1 Q K23 l2 h) : Wx G X h0 (QI Q) h 91 [some (rV x0), some (iV x1), some (iV l2), none, none] [] := by
  refine Wx.start (fun EB => ?_)
  unfold g_X4_layTellings_b91 at hw
  obtain ⟨v91, hw⟩ := hw
  refine x_iincN HE (fun y91 => [some (rV x0), some (iV x1), some (iV y91), none, none]) dX4_layTellings_91 rfl v91 (Nat.le_of_ble_eq_true rfl) (fun _ => rfl) (fun y91 ey91 => ?_)
  have hw := hw y91 ey91
  refine x_goto HE 23 dX4_layTellings_94 (by decide) ?_
  exact hK23 _ _ hw
def g_X4_layTellings_L23 (x0 x1 : Int) (Q : Int → Hp → Prop) (K23 : Int → Hp → Prop) (l2 : Int) (h : Hp) : Prop :=
  (((hA h (x0 + 3) 7) ≤ l2) → (g_X4_layTellings_b97 x0 x1 Q h)) ∧ ((l2 < (hA h (x0 + 3) 7)) → ((i32 (3 * l2)) ∧ ((i32 (161 + (3 * l2))) ∧ (((0 : Int) ≤ (161 + (3 * l2)) ∧ (161 + (3 * l2)) < 347) ∧ (g_X4_hasBit x1 (hA h (x0 + 3) (161 + (3 * l2))) (fun r47 m47 => Ext h m47 → (((r47 ≠ 0) → (g_X4_layTellings_b91 x0 x1 Q K23 l2 m47)) ∧ ((r47 = 0) → ((i32 (3 * l2)) ∧ ((i32 (161 + (3 * l2))) ∧ ((i32 ((161 + (3 * l2)) + 1)) ∧ (((0 : Int) ≤ ((161 + (3 * l2)) + 1) ∧ ((161 + (3 * l2)) + 1) < 347) ∧ ((i32 (10 * (hA m47 (x0 + 3) ((161 + (3 * l2)) + 1)))) ∧ ((i32 (3 * l2)) ∧ ((i32 (161 + (3 * l2))) ∧ ((i32 ((161 + (3 * l2)) + 2)) ∧ (((0 : Int) ≤ ((161 + (3 * l2)) + 2) ∧ ((161 + (3 * l2)) + 2) < 347) ∧ ((i32 ((10 * (hA m47 (x0 + 3) ((161 + (3 * l2)) + 1))) + (hA m47 (x0 + 3) ((161 + (3 * l2)) + 2)))) ∧ (((0 : Int) ≤ ((10 * (hA m47 (x0 + 3) ((161 + (3 * l2)) + 1))) + (hA m47 (x0 + 3) ((161 + (3 * l2)) + 2))) ∧ ((10 * (hA m47 (x0 + 3) ((161 + (3 * l2)) + 1))) + (hA m47 (x0 + 3) ((161 + (3 * l2)) + 2))) < 100) ∧ (∀ m90 : Hp, m90 = setA m47 (x0 + 15) ((10 * (hA m47 (x0 + 3) ((161 + (3 * l2)) + 1))) + (hA m47 (x0 + 3) ((161 + (3 * l2)) + 2))) 1 → (g_X4_layTellings_b91 x0 x1 Q K23 l2 m90)))))))))))))))) h)))))
theorem w_X4_layTellings_23 {G : GT} {X : ET} {h0 : Hp} {x0 x1 : Int} (HE : XE G X cX4_layTellings 5 RX4 1 21 h0) (hr : XR X (some .boolean)) (f0 : Lay_X4 h0 x0) {Q : Int → Hp → Prop} {K23 : Int → Hp → Prop} (hK23 : ∀ (l2 : Int) (h : Hp), K23 l2 h → Wx G X h0 (QI Q) h 23 [some (rV x0), some (iV x1), some (iV l2), none, none] []) {l2 : Int} {h : Hp} (hw : g_X4_layTellings_L23 x0 x1 Q K23 l2 h) : Wx G X h0 (QI Q) h 23 [some (rV x0), some (iV x1), some (iV l2), none, none] [] := by
  refine Wx.start (fun EB => ?_)
  unfold g_X4_layTellings_L23 at hw
  refine x_iload_n HE 2 dX4_layTellings_23 rfl rfl ?_
  refine x_aload_n HE 0 dX4_layTellings_24 rfl rfl ?_
  refine x_gR HE dX4_layTellings_25 fd_X4_15 q1852 (Or.inl rfl) (Lay_X4.tag (f0.ext EB)) (Lay_X4_15 (f0.ext EB)).1 ?_
  refine x_bipush HE dX4_layTellings_28 (by decide) ?_
  refine x_iald HE dX4_layTellings_30 (t := 1) (by decide) ((Lay_X4_15 (f0.ext EB)).2.1) (ix_of ((Lay_X4_15 (f0.ext EB)).2.2) (by decide)) rfl ?_
  refine x_ic_ge HE 97 dX4_layTellings_31 (by decide) (fun c31 => ?_) (fun c31 => ?_)
  · have hw := hw.1 c31
    refine Wx.mask [true, true, false, true, true] (lo2 := [some (rV x0), some (iV x1), none, none, none]) rfl ?_
    exact w_X4_layTellings_97 HE hr f0 hw
  · have hw := hw.2 c31
    refine x_iload_n HE 1 dX4_layTellings_34 rfl rfl ?_
    refine x_aload_n HE 0 dX4_layTellings_35 rfl rfl ?_
    refine x_gR HE dX4_layTellings_36 fd_X4_15 q1852 (Or.inl rfl) (Lay_X4.tag (f0.ext EB)) (Lay_X4_15 (f0.ext EB)).1 ?_
    refine x_sipush HE dX4_layTellings_39 (by decide) ?_
    refine x_iconst HE dX4_layTellings_42 (by decide) ?_
    refine x_iload_n HE 2 dX4_layTellings_43 rfl rfl ?_
    obtain ⟨v44, hw⟩ := hw
    refine x_imul HE dX4_layTellings_44 v44 ?_
    obtain ⟨v45, hw⟩ := hw
    refine x_iadd HE dX4_layTellings_45 v45 ?_
    obtain ⟨i46, hw⟩ := hw
    refine x_iald HE dX4_layTellings_46 (t := 1) (by decide) ((Lay_X4_15 (f0.ext EB)).2.1) (ix_of ((Lay_X4_15 (f0.ext EB)).2.2) i46) rfl ?_
    refine x_callS HE dX4_layTellings_47 rfl (fun l => k_X4_hasBit  l hw) (As := [iV x1, iV (hA h (x0 + 3) (161 + (3 * l2)))]) (rest := []) rfl (lw_S q2278 q2279 q129 q2280) hy_X4_hasBit.2 rfl rfl (Nat.le_of_ble_eq_true rfl) (Nat.le_of_ble_eq_true rfl) (Nat.le_of_ble_eq_true rfl) (kkI (fun r47 m47 E47 hw => ?_))
    have hw := hw E47
    refine x_if_ne HE 91 dX4_layTellings_50 (by decide) (fun c50 => ?_) (fun c50 => ?_)
    · have hw := hw.1 c50
      exact w_X4_layTellings_91 HE hr f0 hK23 hw
    · have hw := hw.2 c50
      refine x_aload_n HE 0 dX4_layTellings_53 rfl rfl ?_
      refine x_gR HE dX4_layTellings_54 fd_X4_34 q1871 (Or.inl rfl) (Lay_X4.tag (f0.ext (EB.tr E47))) (Lay_X4_34 (f0.ext (EB.tr E47))).1 ?_
      refine x_bipush HE dX4_layTellings_57 (by decide) ?_
      refine x_aload_n HE 0 dX4_layTellings_59 rfl rfl ?_
      refine x_gR HE dX4_layTellings_60 fd_X4_15 q1852 (Or.inl rfl) (Lay_X4.tag (f0.ext (EB.tr E47))) (Lay_X4_15 (f0.ext (EB.tr E47))).1 ?_
      refine x_sipush HE dX4_layTellings_63 (by decide) ?_
      refine x_iconst HE dX4_layTellings_66 (by decide) ?_
      refine x_iload_n HE 2 dX4_layTellings_67 rfl rfl ?_
      obtain ⟨v68, hw⟩ := hw
      refine x_imul HE dX4_layTellings_68 v68 ?_
      obtain ⟨v69, hw⟩ := hw
      refine x_iadd HE dX4_layTellings_69 v69 ?_
      refine x_iconst HE dX4_layTellings_70 (by decide) ?_
      obtain ⟨v71, hw⟩ := hw
      refine x_iadd HE dX4_layTellings_71 v71 ?_
      obtain ⟨i72, hw⟩ := hw
      refine x_iald HE dX4_layTellings_72 (t := 1) (by decide) ((Lay_X4_15 (f0.ext (EB.tr E47))).2.1) (ix_of ((Lay_X4_15 (f0.ext (EB.tr E47))).2.2) i72) rfl ?_
      obtain ⟨v73, hw⟩ := hw
      refine x_imul HE dX4_layTellings_73 v73 ?_
      refine x_aload_n HE 0 dX4_layTellings_74 rfl rfl ?_
      refine x_gR HE dX4_layTellings_75 fd_X4_15 q1852 (Or.inl rfl) (Lay_X4.tag (f0.ext (EB.tr E47))) (Lay_X4_15 (f0.ext (EB.tr E47))).1 ?_
      refine x_sipush HE dX4_layTellings_78 (by decide) ?_
      refine x_iconst HE dX4_layTellings_81 (by decide) ?_
      refine x_iload_n HE 2 dX4_layTellings_82 rfl rfl ?_
      obtain ⟨v83, hw⟩ := hw
      refine x_imul HE dX4_layTellings_83 v83 ?_
      obtain ⟨v84, hw⟩ := hw
      refine x_iadd HE dX4_layTellings_84 v84 ?_
      refine x_iconst HE dX4_layTellings_85 (by decide) ?_
      obtain ⟨v86, hw⟩ := hw
      refine x_iadd HE dX4_layTellings_86 v86 ?_
      obtain ⟨i87, hw⟩ := hw
      refine x_iald HE dX4_layTellings_87 (t := 1) (by decide) ((Lay_X4_15 (f0.ext (EB.tr E47))).2.1) (ix_of ((Lay_X4_15 (f0.ext (EB.tr E47))).2.2) i87) rfl ?_
      obtain ⟨v88, hw⟩ := hw
      refine x_iadd HE dX4_layTellings_88 v88 ?_
      refine x_iconst HE dX4_layTellings_89 (by decide) ?_
      obtain ⟨i90, hw⟩ := hw
      refine x_zast HE dX4_layTellings_90 ((Lay_X4_34 (f0.ext (EB.tr E47))).2.1) (ix_of ((Lay_X4_34 (f0.ext (EB.tr E47))).2.2) i90) (by decide) (fun m90 em90 E90 => ?_)
      have hw := hw m90 em90
      exact w_X4_layTellings_91 HE hr f0 hK23 hw
theorem wl_X4_layTellings_23 {G : GT} {X : ET} {h0 : Hp} {x0 x1 : Int} (HE : XE G X cX4_layTellings 5 RX4 1 21 h0) (hr : XR X (some .boolean)) (f0 : Lay_X4 h0 x0) {Q : Int → Hp → Prop} {l2 : Int} {h : Hp} (hw : Lp1 (g_X4_layTellings_L23 x0 x1 Q) l2 h) : Wx G X h0 (QI Q) h 23 [some (rV x0), some (iV x1), some (iV l2), none, none] [] := by
  obtain ⟨n, hw⟩ := hw
  induction n generalizing l2 h with
  | zero => exact hw.elim
  | succ n ih => exact w_X4_layTellings_23 HE hr f0 (fun _ _ hk => ih hk) hw
def g_X4_layTellings_b21 (x0 x1 : Int) (Q : Int → Hp → Prop) (h : Hp) : Prop :=
  Lp1 (g_X4_layTellings_L23 x0 x1 Q) 0 h
theorem w_X4_layTellings_21 {G : GT} {X : ET} {h0 : Hp} {x0 x1 : Int} (HE : XE G X cX4_layTellings 5 RX4 1 21 h0) (hr : XR X (some .boolean)) (f0 : Lay_X4 h0 x0) {Q : Int → Hp → Prop} {h : Hp} (hw : g_X4_layTellings_b21 x0 x1 Q  h) : Wx G X h0 (QI Q) h 21 [some (rV x0), some (iV x1), none, none, none] [] := by
  refine Wx.start (fun EB => ?_)
  unfold g_X4_layTellings_b21 at hw
  refine x_iconst HE dX4_layTellings_21 (by decide) ?_
  refine x_istore_n HE 2 (lo' := [some (rV x0), some (iV x1), some (iV 0), none, none]) dX4_layTellings_22 rfl (Nat.le_of_ble_eq_true rfl) rfl ?_
  exact wl_X4_layTellings_23 HE hr f0 hw
def g_X4_layTellings_L2 (x0 x1 : Int) (Q : Int → Hp → Prop) (K2 : Int → Hp → Prop) (l2 : Int) (h : Hp) : Prop :=
  ((100 ≤ l2) → (g_X4_layTellings_b21 x0 x1 Q h)) ∧ ((l2 < 100) → (((0 : Int) ≤ l2 ∧ l2 < 100) ∧ (∀ m14 : Hp, m14 = setA h (x0 + 15) l2 0 → ((i32 (l2 + 1)) ∧ (∀ y15 : Int, y15 = l2 + 1 → (K2 y15 m14))))))
theorem w_X4_layTellings_2 {G : GT} {X : ET} {h0 : Hp} {x0 x1 : Int} (HE : XE G X cX4_layTellings 5 RX4 1 21 h0) (hr : XR X (some .boolean)) (f0 : Lay_X4 h0 x0) {Q : Int → Hp → Prop} {K2 : Int → Hp → Prop} (hK2 : ∀ (l2 : Int) (h : Hp), K2 l2 h → Wx G X h0 (QI Q) h 2 [some (rV x0), some (iV x1), some (iV l2), none, none] []) {l2 : Int} {h : Hp} (hw : g_X4_layTellings_L2 x0 x1 Q K2 l2 h) : Wx G X h0 (QI Q) h 2 [some (rV x0), some (iV x1), some (iV l2), none, none] [] := by
  refine Wx.start (fun EB => ?_)
  unfold g_X4_layTellings_L2 at hw
  refine x_iload_n HE 2 dX4_layTellings_2 rfl rfl ?_
  refine x_bipush HE dX4_layTellings_3 (by decide) ?_
  refine x_ic_ge HE 21 dX4_layTellings_5 (by decide) (fun c5 => ?_) (fun c5 => ?_)
  · have hw := hw.1 c5
    refine Wx.mask [true, true, false, true, true] (lo2 := [some (rV x0), some (iV x1), none, none, none]) rfl ?_
    exact w_X4_layTellings_21 HE hr f0 hw
  · have hw := hw.2 c5
    refine x_aload_n HE 0 dX4_layTellings_8 rfl rfl ?_
    refine x_gR HE dX4_layTellings_9 fd_X4_34 q1871 (Or.inl rfl) (Lay_X4.tag (f0.ext EB)) (Lay_X4_34 (f0.ext EB)).1 ?_
    refine x_iload_n HE 2 dX4_layTellings_12 rfl rfl ?_
    refine x_iconst HE dX4_layTellings_13 (by decide) ?_
    obtain ⟨i14, hw⟩ := hw
    refine x_zast HE dX4_layTellings_14 ((Lay_X4_34 (f0.ext EB)).2.1) (ix_of ((Lay_X4_34 (f0.ext EB)).2.2) i14) (by decide) (fun m14 em14 E14 => ?_)
    have hw := hw m14 em14
    obtain ⟨v15, hw⟩ := hw
    refine x_iincN HE (fun y15 => [some (rV x0), some (iV x1), some (iV y15), none, none]) dX4_layTellings_15 rfl v15 (Nat.le_of_ble_eq_true rfl) (fun _ => rfl) (fun y15 ey15 => ?_)
    have hw := hw y15 ey15
    refine x_goto HE 2 dX4_layTellings_18 (by decide) ?_
    exact hK2 _ _ hw
theorem wl_X4_layTellings_2 {G : GT} {X : ET} {h0 : Hp} {x0 x1 : Int} (HE : XE G X cX4_layTellings 5 RX4 1 21 h0) (hr : XR X (some .boolean)) (f0 : Lay_X4 h0 x0) {Q : Int → Hp → Prop} {l2 : Int} {h : Hp} (hw : Lp1 (g_X4_layTellings_L2 x0 x1 Q) l2 h) : Wx G X h0 (QI Q) h 2 [some (rV x0), some (iV x1), some (iV l2), none, none] [] := by
  obtain ⟨n, hw⟩ := hw
  induction n generalizing l2 h with
  | zero => exact hw.elim
  | succ n ih => exact w_X4_layTellings_2 HE hr f0 (fun _ _ hk => ih hk) hw
def g_X4_layTellings (x0 x1 : Int) (Q : Int → Hp → Prop) (h : Hp) : Prop :=
  Lp1 (g_X4_layTellings_L2 x0 x1 Q) 0 h
theorem w_X4_layTellings_0 {G : GT} {X : ET} {h0 : Hp} {x0 x1 : Int} (HE : XE G X cX4_layTellings 5 RX4 1 21 h0) (hr : XR X (some .boolean)) (f0 : Lay_X4 h0 x0) {Q : Int → Hp → Prop} {h : Hp} (hw : g_X4_layTellings x0 x1 Q h) : Wx G X h0 (QI Q) h 0 [some (rV x0), some (iV x1), none, none, none] [] := by
  refine Wx.start (fun EB => ?_)
  unfold g_X4_layTellings at hw
  refine x_iconst HE dX4_layTellings_0 (by decide) ?_
  refine x_istore_n HE 2 (lo' := [some (rV x0), some (iV x1), some (iV 0), none, none]) dX4_layTellings_1 rfl (Nat.le_of_ble_eq_true rfl) rfl ?_
  exact wl_X4_layTellings_2 HE hr f0 hw
theorem k_X4_layTellings {G : GT} {x0 x1 : Int} {Q : Int → Hp → Prop} {h : Hp} (f0 : Lay_X4 h x0) (l : Launch) (hw : g_X4_layTellings x0 x1 Q h) : XM G l yX4_layTellings cX4_layTellings 5 (some .boolean) 1 21 [rV x0, iV x1] (QI Q) h :=
  XM.of (by decide) (Nat.le_of_ble_eq_true rfl) (fun X HE hr hn => w_X4_layTellings_0 HE hr f0 hw)
def g_X4_liarsOf_b42 (x0 : Int) (Q : Int → Hp → Prop) (l1 : Int) (h : Hp) : Prop :=
  Q l1 h
theorem w_X4_liarsOf_42 {G : GT} {X : ET} {h0 : Hp} {x0 : Int} (HE : XE G X cX4_liarsOf 3 RX4 2 45 h0) (hr : XR X (some .int)) (f0 : Lay_X4 h0 x0) {Q : Int → Hp → Prop} {l1 : Int} {h : Hp} (hw : g_X4_liarsOf_b42 x0 Q l1 h) : Wx G X h0 (QI Q) h 42 [some (rV x0), some (iV l1), none] [] := by
  refine Wx.start (fun EB => ?_)
  unfold g_X4_liarsOf_b42 at hw
  refine x_iload_n HE 1 dX4_liarsOf_42 rfl rfl ?_
  exact x_iret HE hr dX4_liarsOf_43 hw
def g_X4_liarsOf_b36 (x0 : Int) (Q : Int → Hp → Prop) (K7 : Int → Int → Hp → Prop) (l1 l2 : Int) (h : Hp) : Prop :=
  (i32 (l2 + 1)) ∧ (∀ y36 : Int, y36 = l2 + 1 → (K7 l1 y36 h))
theorem w_X4_liarsOf_36 {G : GT} {X : ET} {h0 : Hp} {x0 : Int} (HE : XE G X cX4_liarsOf 3 RX4 2 45 h0) (hr : XR X (some .int)) (f0 : Lay_X4 h0 x0) {Q : Int → Hp → Prop} {K7 : Int → Int → Hp → Prop} (hK7 : ∀ (l1 l2 : Int) (h : Hp), K7 l1 l2 h → Wx G X h0 (QI Q) h 7 [some (rV x0), some (iV l1), some (iV l2)] []) {l1 l2 : Int} {h : Hp} (hw : g_X4_liarsOf_b36 x0 Q K7 l1 l2 h) : Wx G X h0 (QI Q) h 36 [some (rV x0), some (iV l1), some (iV l2)] [] := by
  refine Wx.start (fun EB => ?_)
  unfold g_X4_liarsOf_b36 at hw
  obtain ⟨v36, hw⟩ := hw
  refine x_iincN HE (fun y36 => [some (rV x0), some (iV l1), some (iV y36)]) dX4_liarsOf_36 rfl v36 (Nat.le_of_ble_eq_true rfl) (fun _ => rfl) (fun y36 ey36 => ?_)
  have hw := hw y36 ey36
  refine x_goto HE 7 dX4_liarsOf_39 (by decide) ?_
  exact hK7 _ _ _ hw
def g_X4_liarsOf_L7 (x0 : Int) (Q : Int → Hp → Prop) (K7 : Int → Int → Hp → Prop) (l1 l2 : Int) (h : Hp) : Prop :=
  g_X4_allPeople x0 (fun r9 m9 => Ext h m9 → (((r9 < l2) → (g_X4_liarsOf_b42 x0 Q l1 m9)) ∧ ((l2 ≤ r9) → (g_X4_ones l2 (fun r16 m16 => Ext m9 m16 → (g_X4_ones l1 (fun r20 m20 => Ext m16 m20 → (((r20 ≤ r16) → (g_X4_liarsOf_b36 x0 Q K7 l1 l2 m20)) ∧ ((r16 < r20) → (g_X4_layTellings x0 l2 (fun r28 m28 => Ext m20 m28 → (((r28 = 0) → (g_X4_liarsOf_b36 x0 Q K7 l1 l2 m28)) ∧ ((r28 ≠ 0) → (g_X4_liarsOf_b36 x0 Q K7 l2 l2 m28)))) m20)))) m16)) m9)))) h
theorem w_X4_liarsOf_7 {G : GT} {X : ET} {h0 : Hp} {x0 : Int} (HE : XE G X cX4_liarsOf 3 RX4 2 45 h0) (hr : XR X (some .int)) (f0 : Lay_X4 h0 x0) {Q : Int → Hp → Prop} {K7 : Int → Int → Hp → Prop} (hK7 : ∀ (l1 l2 : Int) (h : Hp), K7 l1 l2 h → Wx G X h0 (QI Q) h 7 [some (rV x0), some (iV l1), some (iV l2)] []) {l1 l2 : Int} {h : Hp} (hw : g_X4_liarsOf_L7 x0 Q K7 l1 l2 h) : Wx G X h0 (QI Q) h 7 [some (rV x0), some (iV l1), some (iV l2)] [] := by
  refine Wx.start (fun EB => ?_)
  unfold g_X4_liarsOf_L7 at hw
  refine x_iload_n HE 2 dX4_liarsOf_7 rfl rfl ?_
  refine x_aload_n HE 0 dX4_liarsOf_8 rfl rfl ?_
  refine x_callV HE dX4_liarsOf_9 rfl (fun l => k_X4_allPeople (f0.ext EB) l hw) (As := []) (rest := [iV l2]) rfl xc10 (Lay_X4.tag (f0.ext EB)) (lw_V q2380 q2382 qs112 q129 q2383) hy_X4_allPeople rfl rfl (Nat.le_of_ble_eq_true rfl) (Nat.le_of_ble_eq_true rfl) (Nat.le_of_ble_eq_true rfl) (kkI (fun r9 m9 E9 hw => ?_))
  have hw := hw E9
  refine x_ic_gt HE 42 dX4_liarsOf_12 (by decide) (fun c12 => ?_) (fun c12 => ?_)
  · have hw := hw.1 c12
    refine Wx.mask [true, true, false] (lo2 := [some (rV x0), some (iV l1), none]) rfl ?_
    exact w_X4_liarsOf_42 HE hr f0 hw
  · have hw := hw.2 c12
    refine x_iload_n HE 2 dX4_liarsOf_15 rfl rfl ?_
    refine x_callS HE dX4_liarsOf_16 rfl (fun l => k_X4_ones  l hw) (As := [iV l2]) (rest := []) rfl (lw_S q2289 q2290 q129 q2291) hy_X4_ones.2 rfl rfl (Nat.le_of_ble_eq_true rfl) (Nat.le_of_ble_eq_true rfl) (Nat.le_of_ble_eq_true rfl) (kkI (fun r16 m16 E16 hw => ?_))
    have hw := hw E16
    refine x_iload_n HE 1 dX4_liarsOf_19 rfl rfl ?_
    refine x_callS HE dX4_liarsOf_20 rfl (fun l => k_X4_ones  l hw) (As := [iV l1]) (rest := [iV r16]) rfl (lw_S q2289 q2290 q129 q2291) hy_X4_ones.2 rfl rfl (Nat.le_of_ble_eq_true rfl) (Nat.le_of_ble_eq_true rfl) (Nat.le_of_ble_eq_true rfl) (kkI (fun r20 m20 E20 hw => ?_))
    have hw := hw E20
    refine x_ic_ge HE 36 dX4_liarsOf_23 (by decide) (fun c23 => ?_) (fun c23 => ?_)
    · have hw := hw.1 c23
      exact w_X4_liarsOf_36 HE hr f0 hK7 hw
    · have hw := hw.2 c23
      refine x_aload_n HE 0 dX4_liarsOf_26 rfl rfl ?_
      refine x_iload_n HE 2 dX4_liarsOf_27 rfl rfl ?_
      refine x_callV HE dX4_liarsOf_28 rfl (fun l => k_X4_layTellings (f0.ext (EB.tr (E9.tr (E16.tr E20)))) l hw) (As := [iV l2]) (rest := []) rfl xc10 (Lay_X4.tag (f0.ext (EB.tr (E9.tr (E16.tr E20))))) (lw_V q2424 q2426 qs118 q129 q2427) hy_X4_layTellings rfl rfl (Nat.le_of_ble_eq_true rfl) (Nat.le_of_ble_eq_true rfl) (Nat.le_of_ble_eq_true rfl) (kkI (fun r28 m28 E28 hw => ?_))
      have hw := hw E28
      refine x_if_eq HE 36 dX4_liarsOf_31 (by decide) (fun c31 => ?_) (fun c31 => ?_)
      · have hw := hw.1 c31
        exact w_X4_liarsOf_36 HE hr f0 hK7 hw
      · have hw := hw.2 c31
        refine x_iload_n HE 2 dX4_liarsOf_34 rfl rfl ?_
        refine x_istore_n HE 1 (lo' := [some (rV x0), some (iV l2), some (iV l2)]) dX4_liarsOf_35 rfl (Nat.le_of_ble_eq_true rfl) rfl ?_
        exact w_X4_liarsOf_36 HE hr f0 hK7 hw
theorem wl_X4_liarsOf_7 {G : GT} {X : ET} {h0 : Hp} {x0 : Int} (HE : XE G X cX4_liarsOf 3 RX4 2 45 h0) (hr : XR X (some .int)) (f0 : Lay_X4 h0 x0) {Q : Int → Hp → Prop} {l1 l2 : Int} {h : Hp} (hw : Lp2 (g_X4_liarsOf_L7 x0 Q) l1 l2 h) : Wx G X h0 (QI Q) h 7 [some (rV x0), some (iV l1), some (iV l2)] [] := by
  obtain ⟨n, hw⟩ := hw
  induction n generalizing l1 l2 h with
  | zero => exact hw.elim
  | succ n ih => exact w_X4_liarsOf_7 HE hr f0 (fun _ _ _ hk => ih hk) hw
def g_X4_liarsOf (x0 : Int) (Q : Int → Hp → Prop) (h : Hp) : Prop :=
  g_X4_allPeople x0 (fun r1 m1 => Ext h m1 → (Lp2 (g_X4_liarsOf_L7 x0 Q) r1 0 m1)) h
theorem w_X4_liarsOf_0 {G : GT} {X : ET} {h0 : Hp} {x0 : Int} (HE : XE G X cX4_liarsOf 3 RX4 2 45 h0) (hr : XR X (some .int)) (f0 : Lay_X4 h0 x0) {Q : Int → Hp → Prop} {h : Hp} (hw : g_X4_liarsOf x0 Q h) : Wx G X h0 (QI Q) h 0 [some (rV x0), none, none] [] := by
  refine Wx.start (fun EB => ?_)
  unfold g_X4_liarsOf at hw
  refine x_aload_n HE 0 dX4_liarsOf_0 rfl rfl ?_
  refine x_callV HE dX4_liarsOf_1 rfl (fun l => k_X4_allPeople (f0.ext EB) l hw) (As := []) (rest := []) rfl xc10 (Lay_X4.tag (f0.ext EB)) (lw_V q2380 q2382 qs112 q129 q2383) hy_X4_allPeople rfl rfl (Nat.le_of_ble_eq_true rfl) (Nat.le_of_ble_eq_true rfl) (Nat.le_of_ble_eq_true rfl) (kkI (fun r1 m1 E1 hw => ?_))
  have hw := hw E1
  refine x_istore_n HE 1 (lo' := [some (rV x0), some (iV r1), none]) dX4_liarsOf_4 rfl (Nat.le_of_ble_eq_true rfl) rfl ?_
  refine x_iconst HE dX4_liarsOf_5 (by decide) ?_
  refine x_istore_n HE 2 (lo' := [some (rV x0), some (iV r1), some (iV 0)]) dX4_liarsOf_6 rfl (Nat.le_of_ble_eq_true rfl) rfl ?_
  exact wl_X4_liarsOf_7 HE hr f0 hw
theorem k_X4_liarsOf {G : GT} {x0 : Int} {Q : Int → Hp → Prop} {h : Hp} (f0 : Lay_X4 h x0) (l : Launch) (hw : g_X4_liarsOf x0 Q h) : XM G l yX4_liarsOf cX4_liarsOf 3 (some .int) 2 45 [rV x0] (QI Q) h :=
  XM.of (by decide) (Nat.le_of_ble_eq_true rfl) (fun X HE hr hn => w_X4_liarsOf_0 HE hr f0 hw)
def g_X4_liars_b23 (x0 : Int) (Q : Int → Hp → Prop) (s0 : Int) (h : Hp) : Prop :=
  Q s0 h
theorem w_X4_liars_23 {G : GT} {X : ET} {h0 : Hp} {x0 : Int} (HE : XE G X cX4_liars 1 RX4 3 67 h0) (hr : XR X (some .int)) (f0 : Lay_X4 h0 x0) {Q : Int → Hp → Prop} {s0 : Int} {h : Hp} (hw : g_X4_liars_b23 x0 Q s0 h) : Wx G X h0 (QI Q) h 23 [some (rV x0)] [iV s0] := by
  refine Wx.start (fun EB => ?_)
  unfold g_X4_liars_b23 at hw
  exact x_iret HE hr dX4_liars_23 hw
def g_X4_liars (x0 : Int) (Q : Int → Hp → Prop) (h : Hp) : Prop :=
  g_X4_good x0 (fun m1 => Ext h m1 → ((((hF m1 x0 14) = 0) → (g_X4_no x0 1 (fun r20 m20 => Ext m1 m20 → (g_X4_liars_b23 x0 Q r20 m20)) m1)) ∧ (((hF m1 x0 14) ≠ 0) → (g_X4_liarsOf x0 (fun r12 m12 => Ext m1 m12 → (g_X4_liars_b23 x0 Q r12 m12)) m1)))) h
theorem w_X4_liars_0 {G : GT} {X : ET} {h0 : Hp} {x0 : Int} (HE : XE G X cX4_liars 1 RX4 3 67 h0) (hr : XR X (some .int)) (f0 : Lay_X4 h0 x0) {Q : Int → Hp → Prop} {h : Hp} (hw : g_X4_liars x0 Q h) : Wx G X h0 (QI Q) h 0 [some (rV x0)] [] := by
  refine Wx.start (fun EB => ?_)
  unfold g_X4_liars at hw
  refine x_aload_n HE 0 dX4_liars_0 rfl rfl ?_
  refine x_callV HE dX4_liars_1 rfl (fun l => k_X4_good (f0.ext EB) l hw) (As := []) (rest := []) rfl xc10 (Lay_X4.tag (f0.ext EB)) (lw_V q1955 q1957 qs55 q129 q1958) hy_X4_good rfl rfl (Nat.le_of_ble_eq_true rfl) (Nat.le_of_ble_eq_true rfl) (Nat.le_of_ble_eq_true rfl) (kkV (fun m1 E1 hw => ?_))
  have hw := hw E1
  refine x_aload_n HE 0 dX4_liars_4 rfl rfl ?_
  refine x_gI HE dX4_liars_5 fd_X4_14 q1851 (Or.inl rfl) (Lay_X4.tag (f0.ext (EB.tr E1))) rfl ?_
  refine x_if_eq HE 18 dX4_liars_8 (by decide) (fun c8 => ?_) (fun c8 => ?_)
  · have hw := hw.1 c8
    refine x_aload_n HE 0 dX4_liars_18 rfl rfl ?_
    refine x_iconst HE dX4_liars_19 (by decide) ?_
    refine x_callV HE dX4_liars_20 rfl (fun l => k_X4_no (f0.ext (EB.tr E1)) l hw) (As := [iV 1]) (rest := []) rfl xc10 (Lay_X4.tag (f0.ext (EB.tr E1))) (lw_V q1962 q1964 qs56 q129 q1965) hy_X4_no rfl rfl (Nat.le_of_ble_eq_true rfl) (Nat.le_of_ble_eq_true rfl) (Nat.le_of_ble_eq_true rfl) (kkI (fun r20 m20 E20 hw => ?_))
    have hw := hw E20
    exact w_X4_liars_23 HE hr f0 hw
  · have hw := hw.2 c8
    refine x_aload_n HE 0 dX4_liars_11 rfl rfl ?_
    refine x_callV HE dX4_liars_12 rfl (fun l => k_X4_liarsOf (f0.ext (EB.tr E1)) l hw) (As := []) (rest := []) rfl xc10 (Lay_X4.tag (f0.ext (EB.tr E1))) (lw_V q2420 q2422 qs117 q129 q2423) hy_X4_liarsOf rfl rfl (Nat.le_of_ble_eq_true rfl) (Nat.le_of_ble_eq_true rfl) (Nat.le_of_ble_eq_true rfl) (kkI (fun r12 m12 E12 hw => ?_))
    have hw := hw E12
    refine x_goto HE 23 dX4_liars_15 (by decide) ?_
    exact w_X4_liars_23 HE hr f0 hw
theorem k_X4_liars {G : GT} {x0 : Int} {Q : Int → Hp → Prop} {h : Hp} (f0 : Lay_X4 h x0) (l : Launch) (hw : g_X4_liars x0 Q h) : XM G l yX4_liars cX4_liars 1 (some .int) 3 67 [rV x0] (QI Q) h :=
  XM.of (by decide) (Nat.le_of_ble_eq_true rfl) (fun X HE hr hn => w_X4_liars_0 HE hr f0 hw)
def g_X4_surely_b59 (x0 x1 x2 : Int) (Q : Int → Hp → Prop) (s0 : Int) (h : Hp) : Prop :=
  Q s0 h
theorem w_X4_surely_59 {G : GT} {X : ET} {h0 : Hp} {x0 x1 x2 : Int} (HE : XE G X cX4_surely 3 RX4 3 67 h0) (hr : XR X (some .int)) (f0 : Lay_X4 h0 x0) {Q : Int → Hp → Prop} {s0 : Int} {h : Hp} (hw : g_X4_surely_b59 x0 x1 x2 Q s0 h) : Wx G X h0 (QI Q) h 59 [some (rV x0), some (iV x1), some (iV x2)] [iV s0] := by
  refine Wx.start (fun EB => ?_)
  unfold g_X4_surely_b59 at hw
  exact x_iret HE hr dX4_surely_59 hw
def g_X4_surely_b25 (x0 x1 x2 : Int) (Q : Int → Hp → Prop) (h : Hp) : Prop :=
  g_X4_no x0 1 (fun r27 m27 => Ext h m27 → (Q r27 m27)) h
theorem w_X4_surely_25 {G : GT} {X : ET} {h0 : Hp} {x0 x1 x2 : Int} (HE : XE G X cX4_surely 3 RX4 3 67 h0) (hr : XR X (some .int)) (f0 : Lay_X4 h0 x0) {Q : Int → Hp → Prop} {h : Hp} (hw : g_X4_surely_b25 x0 x1 x2 Q  h) : Wx G X h0 (QI Q) h 25 [some (rV x0), some (iV x1), some (iV x2)] [] := by
  refine Wx.start (fun EB => ?_)
  unfold g_X4_surely_b25 at hw
  refine x_aload_n HE 0 dX4_surely_25 rfl rfl ?_
  refine x_iconst HE dX4_surely_26 (by decide) ?_
  refine x_callV HE dX4_surely_27 rfl (fun l => k_X4_no (f0.ext EB) l hw) (As := [iV 1]) (rest := []) rfl xc10 (Lay_X4.tag (f0.ext EB)) (lw_V q1962 q1964 qs56 q129 q1965) hy_X4_no rfl rfl (Nat.le_of_ble_eq_true rfl) (Nat.le_of_ble_eq_true rfl) (Nat.le_of_ble_eq_true rfl) (kkI (fun r27 m27 E27 hw => ?_))
  have hw := hw E27
  exact x_iret HE hr dX4_surely_30 hw
def g_X4_surely (x0 x1 x2 : Int) (Q : Int → Hp → Prop) (h : Hp) : Prop :=
  g_X4_good x0 (fun m1 => Ext h m1 → (g_X4_isPerson x0 x1 (fun r6 m6 => Ext m1 m6 → (((r6 = 0) → (g_X4_surely_b25 x0 x1 x2 Q m6)) ∧ ((r6 ≠ 0) → (g_X4_isPerson x0 x2 (fun r14 m14 => Ext m6 m14 → (((r14 = 0) → (g_X4_surely_b25 x0 x1 x2 Q m14)) ∧ ((r14 ≠ 0) → (((x1 ≠ x2) → (g_X4_liarsOf x0 (fun r33 m33 => Ext m14 m33 → (g_X4_layTellings x0 r33 (fun r36 m36 => Ext m33 m36 → ((i32 (10 * x1)) ∧ ((i32 ((10 * x1) + x2)) ∧ (((0 : Int) ≤ ((10 * x1) + x2) ∧ ((10 * x1) + x2) < 100) ∧ ((((hA m36 (x0 + 15) ((10 * x1) + x2)) = 0) → (g_X4_surely_b59 x0 x1 x2 Q 0 m36)) ∧ (((hA m36 (x0 + 15) ((10 * x1) + x2)) ≠ 0) → (g_X4_surely_b59 x0 x1 x2 Q 1 m36))))))) m33)) m14)) ∧ ((x1 = x2) → (g_X4_surely_b25 x0 x1 x2 Q m14)))))) m6)))) m1)) h
theorem w_X4_surely_0 {G : GT} {X : ET} {h0 : Hp} {x0 x1 x2 : Int} (HE : XE G X cX4_surely 3 RX4 3 67 h0) (hr : XR X (some .int)) (f0 : Lay_X4 h0 x0) {Q : Int → Hp → Prop} {h : Hp} (hw : g_X4_surely x0 x1 x2 Q h) : Wx G X h0 (QI Q) h 0 [some (rV x0), some (iV x1), some (iV x2)] [] := by
  refine Wx.start (fun EB => ?_)
  unfold g_X4_surely at hw
  refine x_aload_n HE 0 dX4_surely_0 rfl rfl ?_
  refine x_callV HE dX4_surely_1 rfl (fun l => k_X4_good (f0.ext EB) l hw) (As := []) (rest := []) rfl xc10 (Lay_X4.tag (f0.ext EB)) (lw_V q1955 q1957 qs55 q129 q1958) hy_X4_good rfl rfl (Nat.le_of_ble_eq_true rfl) (Nat.le_of_ble_eq_true rfl) (Nat.le_of_ble_eq_true rfl) (kkV (fun m1 E1 hw => ?_))
  have hw := hw E1
  refine x_aload_n HE 0 dX4_surely_4 rfl rfl ?_
  refine x_iload_n HE 1 dX4_surely_5 rfl rfl ?_
  refine x_callV HE dX4_surely_6 rfl (fun l => k_X4_isPerson (f0.ext (EB.tr E1)) l hw) (As := [iV x1]) (rest := []) rfl xc10 (Lay_X4.tag (f0.ext (EB.tr E1))) (lw_V q2144 q2146 qs84 q129 q2147) hy_X4_isPerson rfl rfl (Nat.le_of_ble_eq_true rfl) (Nat.le_of_ble_eq_true rfl) (Nat.le_of_ble_eq_true rfl) (kkI (fun r6 m6 E6 hw => ?_))
  have hw := hw E6
  refine x_if_eq HE 25 dX4_surely_9 (by decide) (fun c9 => ?_) (fun c9 => ?_)
  · have hw := hw.1 c9
    exact w_X4_surely_25 HE hr f0 hw
  · have hw := hw.2 c9
    refine x_aload_n HE 0 dX4_surely_12 rfl rfl ?_
    refine x_iload_n HE 2 dX4_surely_13 rfl rfl ?_
    refine x_callV HE dX4_surely_14 rfl (fun l => k_X4_isPerson (f0.ext (EB.tr (E1.tr E6))) l hw) (As := [iV x2]) (rest := []) rfl xc10 (Lay_X4.tag (f0.ext (EB.tr (E1.tr E6)))) (lw_V q2144 q2146 qs84 q129 q2147) hy_X4_isPerson rfl rfl (Nat.le_of_ble_eq_true rfl) (Nat.le_of_ble_eq_true rfl) (Nat.le_of_ble_eq_true rfl) (kkI (fun r14 m14 E14 hw => ?_))
    have hw := hw E14
    refine x_if_eq HE 25 dX4_surely_17 (by decide) (fun c17 => ?_) (fun c17 => ?_)
    · have hw := hw.1 c17
      exact w_X4_surely_25 HE hr f0 hw
    · have hw := hw.2 c17
      refine x_iload_n HE 1 dX4_surely_20 rfl rfl ?_
      refine x_iload_n HE 2 dX4_surely_21 rfl rfl ?_
      refine x_ic_ne HE 31 dX4_surely_22 (by decide) (fun c22 => ?_) (fun c22 => ?_)
      · have hw := hw.1 c22
        refine x_aload_n HE 0 dX4_surely_31 rfl rfl ?_
        refine x_aload_n HE 0 dX4_surely_32 rfl rfl ?_
        refine x_callV HE dX4_surely_33 rfl (fun l => k_X4_liarsOf (f0.ext (EB.tr (E1.tr (E6.tr E14)))) l hw) (As := []) (rest := [rV x0]) rfl xc10 (Lay_X4.tag (f0.ext (EB.tr (E1.tr (E6.tr E14))))) (lw_V q2420 q2422 qs117 q129 q2423) hy_X4_liarsOf rfl rfl (Nat.le_of_ble_eq_true rfl) (Nat.le_of_ble_eq_true rfl) (Nat.le_of_ble_eq_true rfl) (kkI (fun r33 m33 E33 hw => ?_))
        have hw := hw E33
        refine x_callV HE dX4_surely_36 rfl (fun l => k_X4_layTellings (f0.ext (EB.tr (E1.tr (E6.tr (E14.tr E33))))) l hw) (As := [iV r33]) (rest := []) rfl xc10 (Lay_X4.tag (f0.ext (EB.tr (E1.tr (E6.tr (E14.tr E33)))))) (lw_V q2424 q2426 qs118 q129 q2427) hy_X4_layTellings rfl rfl (Nat.le_of_ble_eq_true rfl) (Nat.le_of_ble_eq_true rfl) (Nat.le_of_ble_eq_true rfl) (kkI (fun r36 m36 E36 hw => ?_))
        have hw := hw E36
        refine x_pop HE dX4_surely_39 (fun o => o) ?_
        refine x_aload_n HE 0 dX4_surely_40 rfl rfl ?_
        refine x_gR HE dX4_surely_41 fd_X4_34 q1871 (Or.inl rfl) (Lay_X4.tag (f0.ext (EB.tr (E1.tr (E6.tr (E14.tr (E33.tr E36))))))) (Lay_X4_34 (f0.ext (EB.tr (E1.tr (E6.tr (E14.tr (E33.tr E36))))))).1 ?_
        refine x_bipush HE dX4_surely_44 (by decide) ?_
        refine x_iload_n HE 1 dX4_surely_46 rfl rfl ?_
        obtain ⟨v47, hw⟩ := hw
        refine x_imul HE dX4_surely_47 v47 ?_
        refine x_iload_n HE 2 dX4_surely_48 rfl rfl ?_
        obtain ⟨v49, hw⟩ := hw
        refine x_iadd HE dX4_surely_49 v49 ?_
        obtain ⟨i50, hw⟩ := hw
        refine x_zald HE dX4_surely_50 ((Lay_X4_34 (f0.ext (EB.tr (E1.tr (E6.tr (E14.tr (E33.tr E36))))))).2.1) (ix_of ((Lay_X4_34 (f0.ext (EB.tr (E1.tr (E6.tr (E14.tr (E33.tr E36))))))).2.2) i50) rfl ?_
        refine x_if_eq HE 58 dX4_surely_51 (by decide) (fun c51 => ?_) (fun c51 => ?_)
        · have hw := hw.1 c51
          refine x_iconst HE dX4_surely_58 (by decide) ?_
          exact w_X4_surely_59 HE hr f0 hw
        · have hw := hw.2 c51
          refine x_iconst HE dX4_surely_54 (by decide) ?_
          refine x_goto HE 59 dX4_surely_55 (by decide) ?_
          exact w_X4_surely_59 HE hr f0 hw
      · have hw := hw.2 c22
        exact w_X4_surely_25 HE hr f0 hw
theorem k_X4_surely {G : GT} {x0 x1 x2 : Int} {Q : Int → Hp → Prop} {h : Hp} (f0 : Lay_X4 h x0) (l : Launch) (hw : g_X4_surely x0 x1 x2 Q h) : XM G l yX4_surely cX4_surely 3 (some .int) 3 67 [rV x0, iV x1, iV x2] (QI Q) h :=
  XM.of (by decide) (Nat.le_of_ble_eq_true rfl) (fun X HE hr hn => w_X4_surely_0 HE hr f0 hw)
def g_X4_so_b85 (x0 : Int) (Q : Int → Hp → Prop) (l1 : Int) (h : Hp) : Prop :=
  Q l1 h
theorem w_X4_so_85 {G : GT} {X : ET} {h0 : Hp} {x0 : Int} (HE : XE G X cX4_so 3 RX4 2 45 h0) (hr : XR X (some .int)) (f0 : Lay_X4 h0 x0) {Q : Int → Hp → Prop} {l1 : Int} {h : Hp} (hw : g_X4_so_b85 x0 Q l1 h) : Wx G X h0 (QI Q) h 85 [some (rV x0), some (iV l1), none] [] := by
  refine Wx.start (fun EB => ?_)
  unfold g_X4_so_b85 at hw
  refine x_iload_n HE 1 dX4_so_85 rfl rfl ?_
  exact x_iret HE hr dX4_so_86 hw
def g_X4_so_b77 (x0 : Int) (Q : Int → Hp → Prop) (K25 : Int → Int → Hp → Prop) (l2 s0 s1 : Int) (h : Hp) : Prop :=
  (i32 (s0 + s1)) ∧ (∀ y78 : Int, y78 = (s0 + s1) → ((i32 (l2 + 1)) ∧ (∀ y79 : Int, y79 = l2 + 1 → (K25 y78 y79 h))))
theorem w_X4_so_77 {G : GT} {X : ET} {h0 : Hp} {x0 : Int} (HE : XE G X cX4_so 3 RX4 2 45 h0) (hr : XR X (some .int)) (f0 : Lay_X4 h0 x0) {Q : Int → Hp → Prop} {K25 : Int → Int → Hp → Prop} (hK25 : ∀ (l1 l2 : Int) (h : Hp), K25 l1 l2 h → Wx G X h0 (QI Q) h 25 [some (rV x0), some (iV l1), some (iV l2)] []) {l2 s0 s1 : Int} {h : Hp} (hw : g_X4_so_b77 x0 Q K25 l2 s0 s1 h) : Wx G X h0 (QI Q) h 77 [some (rV x0), none, some (iV l2)] [iV s1, iV s0] := by
  refine Wx.start (fun EB => ?_)
  unfold g_X4_so_b77 at hw
  obtain ⟨v77, hw⟩ := hw
  refine x_iadd HE dX4_so_77 v77 ?_
  refine x_istore_nN HE 1 (fun y78 => [some (rV x0), some (iV y78), some (iV l2)]) dX4_so_78 rfl (Nat.le_of_ble_eq_true rfl) (fun _ => rfl) (fun y78 ey78 => ?_)
  have hw := hw y78 ey78
  obtain ⟨v79, hw⟩ := hw
  refine x_iincN HE (fun y79 => [some (rV x0), some (iV y78), some (iV y79)]) dX4_so_79 rfl v79 (Nat.le_of_ble_eq_true rfl) (fun _ => rfl) (fun y79 ey79 => ?_)
  have hw := hw y79 ey79
  refine x_goto HE 25 dX4_so_82 (by decide) ?_
  exact hK25 _ _ _ hw
def g_X4_so_L25 (x0 : Int) (Q : Int → Hp → Prop) (K25 : Int → Int → Hp → Prop) (l1 l2 : Int) (h : Hp) : Prop :=
  (((hA h (x0 + 3) 7) ≤ l2) → (g_X4_so_b85 x0 Q l1 h)) ∧ ((l2 < (hA h (x0 + 3) 7)) → ((i32 (3 * l2)) ∧ ((i32 (161 + (3 * l2))) ∧ ((i32 ((161 + (3 * l2)) + 2)) ∧ (((0 : Int) ≤ ((161 + (3 * l2)) + 2) ∧ ((161 + (3 * l2)) + 2) < 347) ∧ ((i32 (3 * l2)) ∧ ((i32 (161 + (3 * l2))) ∧ ((i32 ((161 + (3 * l2)) + 1)) ∧ (((0 : Int) ≤ ((161 + (3 * l2)) + 1) ∧ ((161 + (3 * l2)) + 1) < 347) ∧ (g_X4_isBehind x0 (hA h (x0 + 3) ((161 + (3 * l2)) + 2)) (hA h (x0 + 3) ((161 + (3 * l2)) + 1)) (fun r66 m66 => Ext h m66 → (((r66 = 0) → (g_X4_so_b77 x0 Q K25 l2 l1 0 m66)) ∧ ((r66 ≠ 0) → (g_X4_so_b77 x0 Q K25 l2 l1 1 m66)))) h))))))))))
theorem w_X4_so_25 {G : GT} {X : ET} {h0 : Hp} {x0 : Int} (HE : XE G X cX4_so 3 RX4 2 45 h0) (hr : XR X (some .int)) (f0 : Lay_X4 h0 x0) {Q : Int → Hp → Prop} {K25 : Int → Int → Hp → Prop} (hK25 : ∀ (l1 l2 : Int) (h : Hp), K25 l1 l2 h → Wx G X h0 (QI Q) h 25 [some (rV x0), some (iV l1), some (iV l2)] []) {l1 l2 : Int} {h : Hp} (hw : g_X4_so_L25 x0 Q K25 l1 l2 h) : Wx G X h0 (QI Q) h 25 [some (rV x0), some (iV l1), some (iV l2)] [] := by
  refine Wx.start (fun EB => ?_)
  unfold g_X4_so_L25 at hw
  refine x_iload_n HE 2 dX4_so_25 rfl rfl ?_
  refine x_aload_n HE 0 dX4_so_26 rfl rfl ?_
  refine x_gR HE dX4_so_27 fd_X4_15 q1852 (Or.inl rfl) (Lay_X4.tag (f0.ext EB)) (Lay_X4_15 (f0.ext EB)).1 ?_
  refine x_bipush HE dX4_so_30 (by decide) ?_
  refine x_iald HE dX4_so_32 (t := 1) (by decide) ((Lay_X4_15 (f0.ext EB)).2.1) (ix_of ((Lay_X4_15 (f0.ext EB)).2.2) (by decide)) rfl ?_
  refine x_ic_ge HE 85 dX4_so_33 (by decide) (fun c33 => ?_) (fun c33 => ?_)
  · have hw := hw.1 c33
    refine Wx.mask [true, true, false] (lo2 := [some (rV x0), some (iV l1), none]) rfl ?_
    exact w_X4_so_85 HE hr f0 hw
  · have hw := hw.2 c33
    refine x_iload_n HE 1 dX4_so_36 rfl rfl ?_
    refine x_aload_n HE 0 dX4_so_37 rfl rfl ?_
    refine x_aload_n HE 0 dX4_so_38 rfl rfl ?_
    refine x_gR HE dX4_so_39 fd_X4_15 q1852 (Or.inl rfl) (Lay_X4.tag (f0.ext EB)) (Lay_X4_15 (f0.ext EB)).1 ?_
    refine x_sipush HE dX4_so_42 (by decide) ?_
    refine x_iconst HE dX4_so_45 (by decide) ?_
    refine x_iload_n HE 2 dX4_so_46 rfl rfl ?_
    obtain ⟨v47, hw⟩ := hw
    refine x_imul HE dX4_so_47 v47 ?_
    obtain ⟨v48, hw⟩ := hw
    refine x_iadd HE dX4_so_48 v48 ?_
    refine x_iconst HE dX4_so_49 (by decide) ?_
    obtain ⟨v50, hw⟩ := hw
    refine x_iadd HE dX4_so_50 v50 ?_
    obtain ⟨i51, hw⟩ := hw
    refine x_iald HE dX4_so_51 (t := 1) (by decide) ((Lay_X4_15 (f0.ext EB)).2.1) (ix_of ((Lay_X4_15 (f0.ext EB)).2.2) i51) rfl ?_
    refine x_aload_n HE 0 dX4_so_52 rfl rfl ?_
    refine x_gR HE dX4_so_53 fd_X4_15 q1852 (Or.inl rfl) (Lay_X4.tag (f0.ext EB)) (Lay_X4_15 (f0.ext EB)).1 ?_
    refine x_sipush HE dX4_so_56 (by decide) ?_
    refine x_iconst HE dX4_so_59 (by decide) ?_
    refine x_iload_n HE 2 dX4_so_60 rfl rfl ?_
    obtain ⟨v61, hw⟩ := hw
    refine x_imul HE dX4_so_61 v61 ?_
    obtain ⟨v62, hw⟩ := hw
    refine x_iadd HE dX4_so_62 v62 ?_
    refine x_iconst HE dX4_so_63 (by decide) ?_
    obtain ⟨v64, hw⟩ := hw
    refine x_iadd HE dX4_so_64 v64 ?_
    obtain ⟨i65, hw⟩ := hw
    refine x_iald HE dX4_so_65 (t := 1) (by decide) ((Lay_X4_15 (f0.ext EB)).2.1) (ix_of ((Lay_X4_15 (f0.ext EB)).2.2) i65) rfl ?_
    refine x_callV HE dX4_so_66 rfl (fun l => k_X4_isBehind (f0.ext EB) l hw) (As := [iV (hA h (x0 + 3) ((161 + (3 * l2)) + 2)), iV (hA h (x0 + 3) ((161 + (3 * l2)) + 1))]) (rest := [iV l1]) rfl xc10 (Lay_X4.tag (f0.ext EB)) (lw_V q2266 q2268 qs101 q129 q2269) hy_X4_isBehind rfl rfl (Nat.le_of_ble_eq_true rfl) (Nat.le_of_ble_eq_true rfl) (Nat.le_of_ble_eq_true rfl) (kkI (fun r66 m66 E66 hw => ?_))
    have hw := hw E66
    refine x_if_eq HE 76 dX4_so_69 (by decide) (fun c69 => ?_) (fun c69 => ?_)
    · have hw := hw.1 c69
      refine x_iconst HE dX4_so_76 (by decide) ?_
      refine Wx.mask [true, false, true] (lo2 := [some (rV x0), none, some (iV l2)]) rfl ?_
      exact w_X4_so_77 HE hr f0 hK25 hw
    · have hw := hw.2 c69
      refine x_iconst HE dX4_so_72 (by decide) ?_
      refine x_goto HE 77 dX4_so_73 (by decide) ?_
      refine Wx.mask [true, false, true] (lo2 := [some (rV x0), none, some (iV l2)]) rfl ?_
      exact w_X4_so_77 HE hr f0 hK25 hw
theorem wl_X4_so_25 {G : GT} {X : ET} {h0 : Hp} {x0 : Int} (HE : XE G X cX4_so 3 RX4 2 45 h0) (hr : XR X (some .int)) (f0 : Lay_X4 h0 x0) {Q : Int → Hp → Prop} {l1 l2 : Int} {h : Hp} (hw : Lp2 (g_X4_so_L25 x0 Q) l1 l2 h) : Wx G X h0 (QI Q) h 25 [some (rV x0), some (iV l1), some (iV l2)] [] := by
  obtain ⟨n, hw⟩ := hw
  induction n generalizing l1 l2 h with
  | zero => exact hw.elim
  | succ n ih => exact w_X4_so_25 HE hr f0 (fun _ _ _ hk => ih hk) hw
def g_X4_so (x0 : Int) (Q : Int → Hp → Prop) (h : Hp) : Prop :=
  g_X4_good x0 (fun m1 => Ext h m1 → ((((hF m1 x0 14) ≠ 0) → (g_X4_asTold x0 (fun m18 => Ext m1 m18 → (Lp2 (g_X4_so_L25 x0 Q) 0 0 m18)) m1)) ∧ (((hF m1 x0 14) = 0) → (g_X4_no x0 1 (fun r13 m13 => Ext m1 m13 → (Q r13 m13)) m1)))) h
theorem w_X4_so_0 {G : GT} {X : ET} {h0 : Hp} {x0 : Int} (HE : XE G X cX4_so 3 RX4 2 45 h0) (hr : XR X (some .int)) (f0 : Lay_X4 h0 x0) {Q : Int → Hp → Prop} {h : Hp} (hw : g_X4_so x0 Q h) : Wx G X h0 (QI Q) h 0 [some (rV x0), none, none] [] := by
  refine Wx.start (fun EB => ?_)
  unfold g_X4_so at hw
  refine x_aload_n HE 0 dX4_so_0 rfl rfl ?_
  refine x_callV HE dX4_so_1 rfl (fun l => k_X4_good (f0.ext EB) l hw) (As := []) (rest := []) rfl xc10 (Lay_X4.tag (f0.ext EB)) (lw_V q1955 q1957 qs55 q129 q1958) hy_X4_good rfl rfl (Nat.le_of_ble_eq_true rfl) (Nat.le_of_ble_eq_true rfl) (Nat.le_of_ble_eq_true rfl) (kkV (fun m1 E1 hw => ?_))
  have hw := hw E1
  refine x_aload_n HE 0 dX4_so_4 rfl rfl ?_
  refine x_gI HE dX4_so_5 fd_X4_14 q1851 (Or.inl rfl) (Lay_X4.tag (f0.ext (EB.tr E1))) rfl ?_
  refine x_if_ne HE 17 dX4_so_8 (by decide) (fun c8 => ?_) (fun c8 => ?_)
  · have hw := hw.1 c8
    refine x_aload_n HE 0 dX4_so_17 rfl rfl ?_
    refine x_callV HE dX4_so_18 rfl (fun l => k_X4_asTold (f0.ext (EB.tr E1)) l hw) (As := []) (rest := []) rfl xc10 (Lay_X4.tag (f0.ext (EB.tr E1))) (lw_V q2116 q2118 qs80 q129 q2119) hy_X4_asTold rfl rfl (Nat.le_of_ble_eq_true rfl) (Nat.le_of_ble_eq_true rfl) (Nat.le_of_ble_eq_true rfl) (kkV (fun m18 E18 hw => ?_))
    have hw := hw E18
    refine x_iconst HE dX4_so_21 (by decide) ?_
    refine x_istore_n HE 1 (lo' := [some (rV x0), some (iV 0), none]) dX4_so_22 rfl (Nat.le_of_ble_eq_true rfl) rfl ?_
    refine x_iconst HE dX4_so_23 (by decide) ?_
    refine x_istore_n HE 2 (lo' := [some (rV x0), some (iV 0), some (iV 0)]) dX4_so_24 rfl (Nat.le_of_ble_eq_true rfl) rfl ?_
    exact wl_X4_so_25 HE hr f0 hw
  · have hw := hw.2 c8
    refine x_aload_n HE 0 dX4_so_11 rfl rfl ?_
    refine x_iconst HE dX4_so_12 (by decide) ?_
    refine x_callV HE dX4_so_13 rfl (fun l => k_X4_no (f0.ext (EB.tr E1)) l hw) (As := [iV 1]) (rest := []) rfl xc10 (Lay_X4.tag (f0.ext (EB.tr E1))) (lw_V q1962 q1964 qs56 q129 q1965) hy_X4_no rfl rfl (Nat.le_of_ble_eq_true rfl) (Nat.le_of_ble_eq_true rfl) (Nat.le_of_ble_eq_true rfl) (kkI (fun r13 m13 E13 hw => ?_))
    have hw := hw E13
    exact x_iret HE hr dX4_so_16 hw
theorem k_X4_so {G : GT} {x0 : Int} {Q : Int → Hp → Prop} {h : Hp} (f0 : Lay_X4 h x0) (l : Launch) (hw : g_X4_so x0 Q h) : XM G l yX4_so cX4_so 3 (some .int) 2 45 [rV x0] (QI Q) h :=
  XM.of (by decide) (Nat.le_of_ble_eq_true rfl) (fun X HE hr hn => w_X4_so_0 HE hr f0 hw)
def g_X4_note_b49 (x0 : Int) (Q : Hp → Prop) (h : Hp) : Prop :=
  (i32 (108 * (hF h x0 21))) ∧ (g_X4_copy (x0 + 5) 0 (x0 + 7) (108 * (hF h x0 21)) 108 (fun m67 => Ext h m67 → ((i32 ((hF m67 x0 21) + 1)) ∧ (∀ m77 : Hp, m77 = setF m67 x0 21 ((hF m67 x0 21) + 1) → (Q m77)))) h)
theorem w_X4_note_49 {G : GT} {X : ET} {h0 : Hp} {x0 : Int} (HE : XE G X cX4_note 2 RX4 1 25 h0) (hr : XR X none) (f0 : Lay_X4 h0 x0) {Q : Hp → Prop} {h : Hp} (hw : g_X4_note_b49 x0 Q  h) : Wx G X h0 (QV Q) h 49 [some (rV x0), none] [] := by
  refine Wx.start (fun EB => ?_)
  unfold g_X4_note_b49 at hw
  refine x_aload_n HE 0 dX4_note_49 rfl rfl ?_
  refine x_gR HE dX4_note_50 fd_X4_17 q1854 (Or.inl rfl) (Lay_X4.tag (f0.ext EB)) (Lay_X4_17 (f0.ext EB)).1 ?_
  refine x_iconst HE dX4_note_53 (by decide) ?_
  refine x_aload_n HE 0 dX4_note_54 rfl rfl ?_
  refine x_gR HE dX4_note_55 fd_X4_19 q1856 (Or.inl rfl) (Lay_X4.tag (f0.ext EB)) (Lay_X4_19 (f0.ext EB)).1 ?_
  refine x_bipush HE dX4_note_58 (by decide) ?_
  refine x_aload_n HE 0 dX4_note_60 rfl rfl ?_
  refine x_gI HE dX4_note_61 fd_X4_21 q1858 (Or.inl rfl) (Lay_X4.tag (f0.ext EB)) rfl ?_
  obtain ⟨v64, hw⟩ := hw
  refine x_imul HE dX4_note_64 v64 ?_
  refine x_bipush HE dX4_note_65 (by decide) ?_
  refine x_callS HE dX4_note_67 rfl (fun l => k_X4_copy  l hw) (As := [rV (x0 + 5), iV 0, rV (x0 + 7), iV (108 * (hF h x0 21)), iV 108]) (rest := []) rfl (lw_S q2113 q2114 q129 q2115) hy_X4_copy.2 rfl rfl (Nat.le_of_ble_eq_true rfl) (Nat.le_of_ble_eq_true rfl) (Nat.le_of_ble_eq_true rfl) (kkV (fun m67 E67 hw => ?_))
  have hw := hw E67
  refine x_aload_n HE 0 dX4_note_70 rfl rfl ?_
  refine x_dup HE dX4_note_71 (fun o => o) ?_
  refine x_gI HE dX4_note_72 fd_X4_21 q1858 (Or.inl rfl) (Lay_X4.tag (f0.ext (EB.tr E67))) rfl ?_
  refine x_iconst HE dX4_note_75 (by decide) ?_
  obtain ⟨v76, hw⟩ := hw
  refine x_iadd HE dX4_note_76 v76 ?_
  refine x_pI HE dX4_note_77 fd_X4_21 q1858 (Or.inl rfl) (Or.inl rfl) (nf_int _) (Lay_X4.tag (f0.ext (EB.tr E67))) (nro (by decide)) (Or.inl nf_X4_21) (fun m77 em77 E77 => ?_)
  have hw := hw m77 em77
  exact x_vret HE hr dX4_note_80 hw
def g_X4_note_b39 (x0 : Int) (Q : Hp → Prop) (h : Hp) : Prop :=
  (i32 ((hF h x0 21) - 1)) ∧ (∀ m46 : Hp, m46 = setF h x0 21 ((hF h x0 21) - 1) → (g_X4_note_b49 x0 Q m46))
theorem w_X4_note_39 {G : GT} {X : ET} {h0 : Hp} {x0 : Int} (HE : XE G X cX4_note 2 RX4 1 25 h0) (hr : XR X none) (f0 : Lay_X4 h0 x0) {Q : Hp → Prop} {h : Hp} (hw : g_X4_note_b39 x0 Q  h) : Wx G X h0 (QV Q) h 39 [some (rV x0), none] [] := by
  refine Wx.start (fun EB => ?_)
  unfold g_X4_note_b39 at hw
  refine x_aload_n HE 0 dX4_note_39 rfl rfl ?_
  refine x_dup HE dX4_note_40 (fun o => o) ?_
  refine x_gI HE dX4_note_41 fd_X4_21 q1858 (Or.inl rfl) (Lay_X4.tag (f0.ext EB)) rfl ?_
  refine x_iconst HE dX4_note_44 (by decide) ?_
  obtain ⟨v45, hw⟩ := hw
  refine x_isub HE dX4_note_45 v45 ?_
  refine x_pI HE dX4_note_46 fd_X4_21 q1858 (Or.inl rfl) (Or.inl rfl) (nf_int _) (Lay_X4.tag (f0.ext EB)) (nro (by decide)) (Or.inl nf_X4_21) (fun m46 em46 E46 => ?_)
  have hw := hw m46 em46
  exact w_X4_note_49 HE hr f0 hw
def g_X4_note_L11 (x0 : Int) (Q : Hp → Prop) (K11 : Int → Hp → Prop) (l1 : Int) (h : Hp) : Prop :=
  ((1188 ≤ l1) → (g_X4_note_b39 x0 Q h)) ∧ ((l1 < 1188) → ((i32 (l1 + 108)) ∧ (((0 : Int) ≤ (l1 + 108) ∧ (l1 + 108) < 1296) ∧ (((0 : Int) ≤ l1 ∧ l1 < 1296) ∧ (∀ m32 : Hp, m32 = setA h (x0 + 7) l1 (hA h (x0 + 7) (l1 + 108)) → ((i32 (l1 + 1)) ∧ (∀ y33 : Int, y33 = l1 + 1 → (K11 y33 m32))))))))
theorem w_X4_note_11 {G : GT} {X : ET} {h0 : Hp} {x0 : Int} (HE : XE G X cX4_note 2 RX4 1 25 h0) (hr : XR X none) (f0 : Lay_X4 h0 x0) {Q : Hp → Prop} {K11 : Int → Hp → Prop} (hK11 : ∀ (l1 : Int) (h : Hp), K11 l1 h → Wx G X h0 (QV Q) h 11 [some (rV x0), some (iV l1)] []) {l1 : Int} {h : Hp} (hw : g_X4_note_L11 x0 Q K11 l1 h) : Wx G X h0 (QV Q) h 11 [some (rV x0), some (iV l1)] [] := by
  refine Wx.start (fun EB => ?_)
  unfold g_X4_note_L11 at hw
  refine x_iload_n HE 1 dX4_note_11 rfl rfl ?_
  refine x_sipush HE dX4_note_12 (by decide) ?_
  refine x_ic_ge HE 39 dX4_note_15 (by decide) (fun c15 => ?_) (fun c15 => ?_)
  · have hw := hw.1 c15
    refine Wx.mask [true, false] (lo2 := [some (rV x0), none]) rfl ?_
    exact w_X4_note_39 HE hr f0 hw
  · have hw := hw.2 c15
    refine x_aload_n HE 0 dX4_note_18 rfl rfl ?_
    refine x_gR HE dX4_note_19 fd_X4_19 q1856 (Or.inl rfl) (Lay_X4.tag (f0.ext EB)) (Lay_X4_19 (f0.ext EB)).1 ?_
    refine x_iload_n HE 1 dX4_note_22 rfl rfl ?_
    refine x_aload_n HE 0 dX4_note_23 rfl rfl ?_
    refine x_gR HE dX4_note_24 fd_X4_19 q1856 (Or.inl rfl) (Lay_X4.tag (f0.ext EB)) (Lay_X4_19 (f0.ext EB)).1 ?_
    refine x_iload_n HE 1 dX4_note_27 rfl rfl ?_
    refine x_bipush HE dX4_note_28 (by decide) ?_
    obtain ⟨v30, hw⟩ := hw
    refine x_iadd HE dX4_note_30 v30 ?_
    obtain ⟨i31, hw⟩ := hw
    refine x_iald HE dX4_note_31 (t := 1) (by decide) ((Lay_X4_19 (f0.ext EB)).2.1) (ix_of ((Lay_X4_19 (f0.ext EB)).2.2) i31) rfl ?_
    obtain ⟨i32, hw⟩ := hw
    refine x_iast HE dX4_note_32 ((Lay_X4_19 (f0.ext EB)).2.1) (ix_of ((Lay_X4_19 (f0.ext EB)).2.2) i32) (fun m32 em32 E32 => ?_)
    have hw := hw m32 em32
    obtain ⟨v33, hw⟩ := hw
    refine x_iincN HE (fun y33 => [some (rV x0), some (iV y33)]) dX4_note_33 rfl v33 (Nat.le_of_ble_eq_true rfl) (fun _ => rfl) (fun y33 ey33 => ?_)
    have hw := hw y33 ey33
    refine x_goto HE 11 dX4_note_36 (by decide) ?_
    exact hK11 _ _ hw
theorem wl_X4_note_11 {G : GT} {X : ET} {h0 : Hp} {x0 : Int} (HE : XE G X cX4_note 2 RX4 1 25 h0) (hr : XR X none) (f0 : Lay_X4 h0 x0) {Q : Hp → Prop} {l1 : Int} {h : Hp} (hw : Lp1 (g_X4_note_L11 x0 Q) l1 h) : Wx G X h0 (QV Q) h 11 [some (rV x0), some (iV l1)] [] := by
  obtain ⟨n, hw⟩ := hw
  induction n generalizing l1 h with
  | zero => exact hw.elim
  | succ n ih => exact w_X4_note_11 HE hr f0 (fun _ _ hk => ih hk) hw
def g_X4_note (x0 : Int) (Q : Hp → Prop) (h : Hp) : Prop :=
  (((hF h x0 21) ≠ 12) → (g_X4_note_b49 x0 Q h)) ∧ (((hF h x0 21) = 12) → (Lp1 (g_X4_note_L11 x0 Q) 0 h))
theorem w_X4_note_0 {G : GT} {X : ET} {h0 : Hp} {x0 : Int} (HE : XE G X cX4_note 2 RX4 1 25 h0) (hr : XR X none) (f0 : Lay_X4 h0 x0) {Q : Hp → Prop} {h : Hp} (hw : g_X4_note x0 Q h) : Wx G X h0 (QV Q) h 0 [some (rV x0), none] [] := by
  refine Wx.start (fun EB => ?_)
  unfold g_X4_note at hw
  refine x_aload_n HE 0 dX4_note_0 rfl rfl ?_
  refine x_gI HE dX4_note_1 fd_X4_21 q1858 (Or.inl rfl) (Lay_X4.tag (f0.ext EB)) rfl ?_
  refine x_bipush HE dX4_note_4 (by decide) ?_
  refine x_ic_ne HE 49 dX4_note_6 (by decide) (fun c6 => ?_) (fun c6 => ?_)
  · have hw := hw.1 c6
    exact w_X4_note_49 HE hr f0 hw
  · have hw := hw.2 c6
    refine x_iconst HE dX4_note_9 (by decide) ?_
    refine x_istore_n HE 1 (lo' := [some (rV x0), some (iV 0)]) dX4_note_10 rfl (Nat.le_of_ble_eq_true rfl) rfl ?_
    exact wl_X4_note_11 HE hr f0 hw
theorem k_X4_note {G : GT} {x0 : Int} {Q : Hp → Prop} {h : Hp} (f0 : Lay_X4 h x0) (l : Launch) (hw : g_X4_note x0 Q h) : XM G l yX4_note cX4_note 2 none 1 25 [rV x0] (QV Q) h :=
  XM.of (by decide) (Nat.le_of_ble_eq_true rfl) (fun X HE hr hn => w_X4_note_0 HE hr f0 hw)
def g_X4_pass_b88 (x0 x1 : Int) (Q : Int → Hp → Prop) (h : Hp) : Prop :=
  Q (hA h (x0 + 5) 0) h
theorem w_X4_pass_88 {G : GT} {X : ET} {h0 : Hp} {x0 x1 : Int} (HE : XE G X cX4_pass 3 RX4 5 126 h0) (hr : XR X (some .int)) (f0 : Lay_X4 h0 x0) {Q : Int → Hp → Prop} {h : Hp} (hw : g_X4_pass_b88 x0 x1 Q  h) : Wx G X h0 (QI Q) h 88 [some (rV x0), some (iV x1), none] [] := by
  refine Wx.start (fun EB => ?_)
  unfold g_X4_pass_b88 at hw
  refine x_aload_n HE 0 dX4_pass_88 rfl rfl ?_
  refine x_gR HE dX4_pass_89 fd_X4_17 q1854 (Or.inl rfl) (Lay_X4.tag (f0.ext EB)) (Lay_X4_17 (f0.ext EB)).1 ?_
  refine x_iconst HE dX4_pass_92 (by decide) ?_
  refine x_iald HE dX4_pass_93 (t := 1) (by decide) ((Lay_X4_17 (f0.ext EB)).2.1) (ix_of ((Lay_X4_17 (f0.ext EB)).2.2) (by decide)) rfl ?_
  exact x_iret HE hr dX4_pass_94 hw
def g_X4_pass_L69 (x0 x1 : Int) (Q : Int → Hp → Prop) (K69 : Int → Hp → Prop) (l2 : Int) (h : Hp) : Prop :=
  ((x1 ≤ l2) → (g_X4_pass_b88 x0 x1 Q h)) ∧ ((l2 < x1) → (g_X4_second x0 (x0 + 5) (fun m79 => Ext h m79 → ((i32 (l2 + 1)) ∧ (∀ y82 : Int, y82 = l2 + 1 → (K69 y82 m79)))) h))
theorem w_X4_pass_69 {G : GT} {X : ET} {h0 : Hp} {x0 x1 : Int} (HE : XE G X cX4_pass 3 RX4 5 126 h0) (hr : XR X (some .int)) (f0 : Lay_X4 h0 x0) {Q : Int → Hp → Prop} {K69 : Int → Hp → Prop} (hK69 : ∀ (l2 : Int) (h : Hp), K69 l2 h → Wx G X h0 (QI Q) h 69 [some (rV x0), some (iV x1), some (iV l2)] []) {l2 : Int} {h : Hp} (hw : g_X4_pass_L69 x0 x1 Q K69 l2 h) : Wx G X h0 (QI Q) h 69 [some (rV x0), some (iV x1), some (iV l2)] [] := by
  refine Wx.start (fun EB => ?_)
  unfold g_X4_pass_L69 at hw
  refine x_iload_n HE 2 dX4_pass_69 rfl rfl ?_
  refine x_iload_n HE 1 dX4_pass_70 rfl rfl ?_
  refine x_ic_ge HE 88 dX4_pass_71 (by decide) (fun c71 => ?_) (fun c71 => ?_)
  · have hw := hw.1 c71
    refine Wx.mask [true, true, false] (lo2 := [some (rV x0), some (iV x1), none]) rfl ?_
    exact w_X4_pass_88 HE hr f0 hw
  · have hw := hw.2 c71
    refine x_aload_n HE 0 dX4_pass_74 rfl rfl ?_
    refine x_aload_n HE 0 dX4_pass_75 rfl rfl ?_
    refine x_gR HE dX4_pass_76 fd_X4_17 q1854 (Or.inl rfl) (Lay_X4.tag (f0.ext EB)) (Lay_X4_17 (f0.ext EB)).1 ?_
    refine x_callV HE dX4_pass_79 rfl (fun l => k_X4_second (f0.ext EB) ⟨(Lay_X4_17 (f0.ext EB)).2.1, (Lay_X4_17 (f0.ext EB)).2.2⟩ l hw) (As := [rV (x0 + 5)]) (rest := []) rfl xc10 (Lay_X4.tag (f0.ext EB)) (lw_V q2230 q2232 qs96 q129 q2233) hy_X4_second rfl rfl (Nat.le_of_ble_eq_true rfl) (Nat.le_of_ble_eq_true rfl) (Nat.le_of_ble_eq_true rfl) (kkV (fun m79 E79 hw => ?_))
    have hw := hw E79
    obtain ⟨v82, hw⟩ := hw
    refine x_iincN HE (fun y82 => [some (rV x0), some (iV x1), some (iV y82)]) dX4_pass_82 rfl v82 (Nat.le_of_ble_eq_true rfl) (fun _ => rfl) (fun y82 ey82 => ?_)
    have hw := hw y82 ey82
    refine x_goto HE 69 dX4_pass_85 (by decide) ?_
    exact hK69 _ _ hw
theorem wl_X4_pass_69 {G : GT} {X : ET} {h0 : Hp} {x0 x1 : Int} (HE : XE G X cX4_pass 3 RX4 5 126 h0) (hr : XR X (some .int)) (f0 : Lay_X4 h0 x0) {Q : Int → Hp → Prop} {l2 : Int} {h : Hp} (hw : Lp1 (g_X4_pass_L69 x0 x1 Q) l2 h) : Wx G X h0 (QI Q) h 69 [some (rV x0), some (iV x1), some (iV l2)] [] := by
  obtain ⟨n, hw⟩ := hw
  induction n generalizing l2 h with
  | zero => exact hw.elim
  | succ n ih => exact w_X4_pass_69 HE hr f0 (fun _ _ hk => ih hk) hw
def g_X4_pass (x0 x1 : Int) (Q : Int → Hp → Prop) (h : Hp) : Prop :=
  g_X4_good x0 (fun m1 => Ext h m1 → ((((hF m1 x0 14) ≠ 0) → (g_X4_within x1 1 200 (fun r22 m22 => Ext m1 m22 → (((r22 ≠ 0) → ((i32 ((hA m22 (x0 + 5) 0) + x1)) ∧ ((i32 ((hA m22 (x0 + 3) 2) + 1)) ∧ (((((hA m22 (x0 + 5) 0) + x1) ≤ ((hA m22 (x0 + 3) 2) + 1)) → (g_X4_note x0 (fun m60 => Ext m22 m60 → (g_X4_asTold x0 (fun m64 => Ext m60 m64 → (Lp1 (g_X4_pass_L69 x0 x1 Q) 0 m64)) m60)) m22)) ∧ ((((hA m22 (x0 + 3) 2) + 1) < ((hA m22 (x0 + 5) 0) + x1)) → (g_X4_no x0 3 (fun r55 m55 => Ext m22 m55 → (Q r55 m55)) m22)))))) ∧ ((r22 = 0) → (g_X4_no x0 2 (fun r30 m30 => Ext m22 m30 → (Q r30 m30)) m22)))) m1)) ∧ (((hF m1 x0 14) = 0) → (g_X4_no x0 1 (fun r13 m13 => Ext m1 m13 → (Q r13 m13)) m1)))) h
theorem w_X4_pass_0 {G : GT} {X : ET} {h0 : Hp} {x0 x1 : Int} (HE : XE G X cX4_pass 3 RX4 5 126 h0) (hr : XR X (some .int)) (f0 : Lay_X4 h0 x0) {Q : Int → Hp → Prop} {h : Hp} (hw : g_X4_pass x0 x1 Q h) : Wx G X h0 (QI Q) h 0 [some (rV x0), some (iV x1), none] [] := by
  refine Wx.start (fun EB => ?_)
  unfold g_X4_pass at hw
  refine x_aload_n HE 0 dX4_pass_0 rfl rfl ?_
  refine x_callV HE dX4_pass_1 rfl (fun l => k_X4_good (f0.ext EB) l hw) (As := []) (rest := []) rfl xc10 (Lay_X4.tag (f0.ext EB)) (lw_V q1955 q1957 qs55 q129 q1958) hy_X4_good rfl rfl (Nat.le_of_ble_eq_true rfl) (Nat.le_of_ble_eq_true rfl) (Nat.le_of_ble_eq_true rfl) (kkV (fun m1 E1 hw => ?_))
  have hw := hw E1
  refine x_aload_n HE 0 dX4_pass_4 rfl rfl ?_
  refine x_gI HE dX4_pass_5 fd_X4_14 q1851 (Or.inl rfl) (Lay_X4.tag (f0.ext (EB.tr E1))) rfl ?_
  refine x_if_ne HE 17 dX4_pass_8 (by decide) (fun c8 => ?_) (fun c8 => ?_)
  · have hw := hw.1 c8
    refine x_iload_n HE 1 dX4_pass_17 rfl rfl ?_
    refine x_iconst HE dX4_pass_18 (by decide) ?_
    refine x_sipush HE dX4_pass_19 (by decide) ?_
    refine x_callS HE dX4_pass_22 rfl (fun l => k_X4_within  l hw) (As := [iV x1, iV 1, iV 200]) (rest := []) rfl (lw_S q1959 q1960 q129 q1961) hy_X4_within.2 rfl rfl (Nat.le_of_ble_eq_true rfl) (Nat.le_of_ble_eq_true rfl) (Nat.le_of_ble_eq_true rfl) (kkI (fun r22 m22 E22 hw => ?_))
    have hw := hw E22
    refine x_if_ne HE 34 dX4_pass_25 (by decide) (fun c25 => ?_) (fun c25 => ?_)
    · have hw := hw.1 c25
      refine x_aload_n HE 0 dX4_pass_34 rfl rfl ?_
      refine x_gR HE dX4_pass_35 fd_X4_17 q1854 (Or.inl rfl) (Lay_X4.tag (f0.ext (EB.tr (E1.tr E22)))) (Lay_X4_17 (f0.ext (EB.tr (E1.tr E22)))).1 ?_
      refine x_iconst HE dX4_pass_38 (by decide) ?_
      refine x_iald HE dX4_pass_39 (t := 1) (by decide) ((Lay_X4_17 (f0.ext (EB.tr (E1.tr E22)))).2.1) (ix_of ((Lay_X4_17 (f0.ext (EB.tr (E1.tr E22)))).2.2) (by decide)) rfl ?_
      refine x_iload_n HE 1 dX4_pass_40 rfl rfl ?_
      obtain ⟨v41, hw⟩ := hw
      refine x_iadd HE dX4_pass_41 v41 ?_
      refine x_aload_n HE 0 dX4_pass_42 rfl rfl ?_
      refine x_gR HE dX4_pass_43 fd_X4_15 q1852 (Or.inl rfl) (Lay_X4.tag (f0.ext (EB.tr (E1.tr E22)))) (Lay_X4_15 (f0.ext (EB.tr (E1.tr E22)))).1 ?_
      refine x_iconst HE dX4_pass_46 (by decide) ?_
      refine x_iald HE dX4_pass_47 (t := 1) (by decide) ((Lay_X4_15 (f0.ext (EB.tr (E1.tr E22)))).2.1) (ix_of ((Lay_X4_15 (f0.ext (EB.tr (E1.tr E22)))).2.2) (by decide)) rfl ?_
      refine x_iconst HE dX4_pass_48 (by decide) ?_
      obtain ⟨v49, hw⟩ := hw
      refine x_iadd HE dX4_pass_49 v49 ?_
      refine x_ic_le HE 59 dX4_pass_50 (by decide) (fun c50 => ?_) (fun c50 => ?_)
      · have hw := hw.1 c50
        refine x_aload_n HE 0 dX4_pass_59 rfl rfl ?_
        refine x_callV HE dX4_pass_60 rfl (fun l => k_X4_note (f0.ext (EB.tr (E1.tr E22))) l hw) (As := []) (rest := []) rfl xc10 (Lay_X4.tag (f0.ext (EB.tr (E1.tr E22)))) (lw_V q2440 q2442 qs119 q129 q2443) hy_X4_note rfl rfl (Nat.le_of_ble_eq_true rfl) (Nat.le_of_ble_eq_true rfl) (Nat.le_of_ble_eq_true rfl) (kkV (fun m60 E60 hw => ?_))
        have hw := hw E60
        refine x_aload_n HE 0 dX4_pass_63 rfl rfl ?_
        refine x_callV HE dX4_pass_64 rfl (fun l => k_X4_asTold (f0.ext (EB.tr (E1.tr (E22.tr E60)))) l hw) (As := []) (rest := []) rfl xc10 (Lay_X4.tag (f0.ext (EB.tr (E1.tr (E22.tr E60))))) (lw_V q2116 q2118 qs80 q129 q2119) hy_X4_asTold rfl rfl (Nat.le_of_ble_eq_true rfl) (Nat.le_of_ble_eq_true rfl) (Nat.le_of_ble_eq_true rfl) (kkV (fun m64 E64 hw => ?_))
        have hw := hw E64
        refine x_iconst HE dX4_pass_67 (by decide) ?_
        refine x_istore_n HE 2 (lo' := [some (rV x0), some (iV x1), some (iV 0)]) dX4_pass_68 rfl (Nat.le_of_ble_eq_true rfl) rfl ?_
        exact wl_X4_pass_69 HE hr f0 hw
      · have hw := hw.2 c50
        refine x_aload_n HE 0 dX4_pass_53 rfl rfl ?_
        refine x_iconst HE dX4_pass_54 (by decide) ?_
        refine x_callV HE dX4_pass_55 rfl (fun l => k_X4_no (f0.ext (EB.tr (E1.tr E22))) l hw) (As := [iV 3]) (rest := []) rfl xc10 (Lay_X4.tag (f0.ext (EB.tr (E1.tr E22)))) (lw_V q1962 q1964 qs56 q129 q1965) hy_X4_no rfl rfl (Nat.le_of_ble_eq_true rfl) (Nat.le_of_ble_eq_true rfl) (Nat.le_of_ble_eq_true rfl) (kkI (fun r55 m55 E55 hw => ?_))
        have hw := hw E55
        exact x_iret HE hr dX4_pass_58 hw
    · have hw := hw.2 c25
      refine x_aload_n HE 0 dX4_pass_28 rfl rfl ?_
      refine x_iconst HE dX4_pass_29 (by decide) ?_
      refine x_callV HE dX4_pass_30 rfl (fun l => k_X4_no (f0.ext (EB.tr (E1.tr E22))) l hw) (As := [iV 2]) (rest := []) rfl xc10 (Lay_X4.tag (f0.ext (EB.tr (E1.tr E22)))) (lw_V q1962 q1964 qs56 q129 q1965) hy_X4_no rfl rfl (Nat.le_of_ble_eq_true rfl) (Nat.le_of_ble_eq_true rfl) (Nat.le_of_ble_eq_true rfl) (kkI (fun r30 m30 E30 hw => ?_))
      have hw := hw E30
      exact x_iret HE hr dX4_pass_33 hw
  · have hw := hw.2 c8
    refine x_aload_n HE 0 dX4_pass_11 rfl rfl ?_
    refine x_iconst HE dX4_pass_12 (by decide) ?_
    refine x_callV HE dX4_pass_13 rfl (fun l => k_X4_no (f0.ext (EB.tr E1)) l hw) (As := [iV 1]) (rest := []) rfl xc10 (Lay_X4.tag (f0.ext (EB.tr E1))) (lw_V q1962 q1964 qs56 q129 q1965) hy_X4_no rfl rfl (Nat.le_of_ble_eq_true rfl) (Nat.le_of_ble_eq_true rfl) (Nat.le_of_ble_eq_true rfl) (kkI (fun r13 m13 E13 hw => ?_))
    have hw := hw E13
    exact x_iret HE hr dX4_pass_16 hw
theorem k_X4_pass {G : GT} {x0 x1 : Int} {Q : Int → Hp → Prop} {h : Hp} (f0 : Lay_X4 h x0) (l : Launch) (hw : g_X4_pass x0 x1 Q h) : XM G l yX4_pass cX4_pass 3 (some .int) 5 126 [rV x0, iV x1] (QI Q) h :=
  XM.of (by decide) (Nat.le_of_ble_eq_true rfl) (fun X HE hr hn => w_X4_pass_0 HE hr f0 hw)
def g_X4_isNot (x0 x1 : Int) (Q : Int → Hp → Prop) (h : Hp) : Prop :=
  ∀ m2 : Hp, m2 = setF h x0 11 x1 → (Q 0 m2)
theorem w_X4_isNot_0 {G : GT} {X : ET} {h0 : Hp} {x0 x1 : Int} (HE : XE G X cX4_isNot 2 RX4 0 0 h0) (hr : XR X (some .boolean)) (f0 : Lay_X4 h0 x0) {Q : Int → Hp → Prop} {h : Hp} (hw : g_X4_isNot x0 x1 Q h) : Wx G X h0 (QI Q) h 0 [some (rV x0), some (iV x1)] [] := by
  refine Wx.start (fun EB => ?_)
  unfold g_X4_isNot at hw
  refine x_aload_n HE 0 dX4_isNot_0 rfl rfl ?_
  refine x_iload_n HE 1 dX4_isNot_1 rfl rfl ?_
  refine x_pI HE dX4_isNot_2 fd_X4_11 q1848 (Or.inl rfl) (Or.inl rfl) (nf_int _) (Lay_X4.tag (f0.ext EB)) (nro (by decide)) (Or.inl nf_X4_11) (fun m2 em2 E2 => ?_)
  have hw := hw m2 em2
  refine x_iconst HE dX4_isNot_5 (by decide) ?_
  exact x_zret HE hr dX4_isNot_6 (by decide) hw
theorem k_X4_isNot {G : GT} {x0 x1 : Int} {Q : Int → Hp → Prop} {h : Hp} (f0 : Lay_X4 h x0) (l : Launch) (hw : g_X4_isNot x0 x1 Q h) : XM G l yX4_isNot cX4_isNot 2 (some .boolean) 0 0 [rV x0, iV x1] (QI Q) h :=
  XM.of (by decide) (Nat.le_of_ble_eq_true rfl) (fun X HE hr hn => w_X4_isNot_0 HE hr f0 hw)
def g_X4_moves_b50 (x0 x1 x2 : Int) (Q : Int → Hp → Prop) (h : Hp) : Prop :=
  g_X4_isNot x0 5 (fun r52 m52 => Ext h m52 → ((r52 = 0 ∨ r52 = 1) ∧ Q r52 m52)) h
theorem w_X4_moves_50 {G : GT} {X : ET} {h0 : Hp} {x0 x1 x2 : Int} (HE : XE G X cX4_moves 3 RX4 2 46 h0) (hr : XR X (some .boolean)) (f0 : Lay_X4 h0 x0) {Q : Int → Hp → Prop} {h : Hp} (hw : g_X4_moves_b50 x0 x1 x2 Q  h) : Wx G X h0 (QI Q) h 50 [some (rV x0), some (iV x1), some (iV x2)] [] := by
  refine Wx.start (fun EB => ?_)
  unfold g_X4_moves_b50 at hw
  refine x_aload_n HE 0 dX4_moves_50 rfl rfl ?_
  refine x_iconst HE dX4_moves_51 (by decide) ?_
  refine x_callV HE dX4_moves_52 rfl (fun l => k_X4_isNot (f0.ext EB) l hw) (As := [iV 5]) (rest := []) rfl xc10 (Lay_X4.tag (f0.ext EB)) (lw_V q2448 q2450 qs120 q129 q2451) hy_X4_isNot rfl rfl (Nat.le_of_ble_eq_true rfl) (Nat.le_of_ble_eq_true rfl) (Nat.le_of_ble_eq_true rfl) (kkI (fun r52 m52 E52 hw => ?_))
  have hw := hw E52
  exact x_zret HE hr dX4_moves_55 hw.1 hw.2
def g_X4_moves_b20 (x0 x1 x2 : Int) (Q : Int → Hp → Prop) (h : Hp) : Prop :=
  g_X4_isNot x0 1 (fun r22 m22 => Ext h m22 → ((r22 = 0 ∨ r22 = 1) ∧ Q r22 m22)) h
theorem w_X4_moves_20 {G : GT} {X : ET} {h0 : Hp} {x0 x1 x2 : Int} (HE : XE G X cX4_moves 3 RX4 2 46 h0) (hr : XR X (some .boolean)) (f0 : Lay_X4 h0 x0) {Q : Int → Hp → Prop} {h : Hp} (hw : g_X4_moves_b20 x0 x1 x2 Q  h) : Wx G X h0 (QI Q) h 20 [some (rV x0), some (iV x1), some (iV x2)] [] := by
  refine Wx.start (fun EB => ?_)
  unfold g_X4_moves_b20 at hw
  refine x_aload_n HE 0 dX4_moves_20 rfl rfl ?_
  refine x_iconst HE dX4_moves_21 (by decide) ?_
  refine x_callV HE dX4_moves_22 rfl (fun l => k_X4_isNot (f0.ext EB) l hw) (As := [iV 1]) (rest := []) rfl xc10 (Lay_X4.tag (f0.ext EB)) (lw_V q2448 q2450 qs120 q129 q2451) hy_X4_isNot rfl rfl (Nat.le_of_ble_eq_true rfl) (Nat.le_of_ble_eq_true rfl) (Nat.le_of_ble_eq_true rfl) (kkI (fun r22 m22 E22 hw => ?_))
  have hw := hw E22
  exact x_zret HE hr dX4_moves_25 hw.1 hw.2
def g_X4_moves (x0 x1 x2 : Int) (Q : Int → Hp → Prop) (h : Hp) : Prop :=
  g_X4_good x0 (fun m1 => Ext h m1 → (g_X4_isPerson x0 x1 (fun r6 m6 => Ext m1 m6 → (((r6 = 0) → (g_X4_moves_b20 x0 x1 x2 Q m6)) ∧ ((r6 ≠ 0) → (g_X4_isSpot x0 x2 (fun r14 m14 => Ext m6 m14 → (((r14 ≠ 0) → (g_X4_isWaiting (x0 + 5) x1 (fun r31 m31 => Ext m14 m31 → (((r31 = 0) → (g_X4_moves_b50 x0 x1 x2 Q m31)) ∧ ((r31 ≠ 0) → (g_X4_its (x0 + 5) x1 1 (fun r43 m43 => Ext m31 m43 → (((r43 ≠ x2) → (g_X4_note x0 (fun m57 => Ext m43 m57 → ((i32 (8 * x1)) ∧ ((i32 (12 + (8 * x1))) ∧ ((i32 ((12 + (8 * x1)) + 1)) ∧ (((0 : Int) ≤ ((12 + (8 * x1)) + 1) ∧ ((12 + (8 * x1)) + 1) < 108) ∧ (∀ m74 : Hp, m74 = setA m57 (x0 + 5) ((12 + (8 * x1)) + 1) x2 → (Q 1 m74))))))) m43)) ∧ ((r43 = x2) → (g_X4_moves_b50 x0 x1 x2 Q m43)))) m31)))) m14)) ∧ ((r14 = 0) → (g_X4_moves_b20 x0 x1 x2 Q m14)))) m6)))) m1)) h
theorem w_X4_moves_0 {G : GT} {X : ET} {h0 : Hp} {x0 x1 x2 : Int} (HE : XE G X cX4_moves 3 RX4 2 46 h0) (hr : XR X (some .boolean)) (f0 : Lay_X4 h0 x0) {Q : Int → Hp → Prop} {h : Hp} (hw : g_X4_moves x0 x1 x2 Q h) : Wx G X h0 (QI Q) h 0 [some (rV x0), some (iV x1), some (iV x2)] [] := by
  refine Wx.start (fun EB => ?_)
  unfold g_X4_moves at hw
  refine x_aload_n HE 0 dX4_moves_0 rfl rfl ?_
  refine x_callV HE dX4_moves_1 rfl (fun l => k_X4_good (f0.ext EB) l hw) (As := []) (rest := []) rfl xc10 (Lay_X4.tag (f0.ext EB)) (lw_V q1955 q1957 qs55 q129 q1958) hy_X4_good rfl rfl (Nat.le_of_ble_eq_true rfl) (Nat.le_of_ble_eq_true rfl) (Nat.le_of_ble_eq_true rfl) (kkV (fun m1 E1 hw => ?_))
  have hw := hw E1
  refine x_aload_n HE 0 dX4_moves_4 rfl rfl ?_
  refine x_iload_n HE 1 dX4_moves_5 rfl rfl ?_
  refine x_callV HE dX4_moves_6 rfl (fun l => k_X4_isPerson (f0.ext (EB.tr E1)) l hw) (As := [iV x1]) (rest := []) rfl xc10 (Lay_X4.tag (f0.ext (EB.tr E1))) (lw_V q2144 q2146 qs84 q129 q2147) hy_X4_isPerson rfl rfl (Nat.le_of_ble_eq_true rfl) (Nat.le_of_ble_eq_true rfl) (Nat.le_of_ble_eq_true rfl) (kkI (fun r6 m6 E6 hw => ?_))
  have hw := hw E6
  refine x_if_eq HE 20 dX4_moves_9 (by decide) (fun c9 => ?_) (fun c9 => ?_)
  · have hw := hw.1 c9
    exact w_X4_moves_20 HE hr f0 hw
  · have hw := hw.2 c9
    refine x_aload_n HE 0 dX4_moves_12 rfl rfl ?_
    refine x_iload_n HE 2 dX4_moves_13 rfl rfl ?_
    refine x_callV HE dX4_moves_14 rfl (fun l => k_X4_isSpot (f0.ext (EB.tr (E1.tr E6))) l hw) (As := [iV x2]) (rest := []) rfl xc10 (Lay_X4.tag (f0.ext (EB.tr (E1.tr E6)))) (lw_V q2161 q2163 qs86 q129 q2164) hy_X4_isSpot rfl rfl (Nat.le_of_ble_eq_true rfl) (Nat.le_of_ble_eq_true rfl) (Nat.le_of_ble_eq_true rfl) (kkI (fun r14 m14 E14 hw => ?_))
    have hw := hw E14
    refine x_if_ne HE 26 dX4_moves_17 (by decide) (fun c17 => ?_) (fun c17 => ?_)
    · have hw := hw.1 c17
      refine x_aload_n HE 0 dX4_moves_26 rfl rfl ?_
      refine x_gR HE dX4_moves_27 fd_X4_17 q1854 (Or.inl rfl) (Lay_X4.tag (f0.ext (EB.tr (E1.tr (E6.tr E14))))) (Lay_X4_17 (f0.ext (EB.tr (E1.tr (E6.tr E14))))).1 ?_
      refine x_iload_n HE 1 dX4_moves_30 rfl rfl ?_
      refine x_callS HE dX4_moves_31 rfl (fun l => k_X4_isWaiting ⟨(Lay_X4_17 (f0.ext (EB.tr (E1.tr (E6.tr E14))))).2.1, (Lay_X4_17 (f0.ext (EB.tr (E1.tr (E6.tr E14))))).2.2⟩ l hw) (As := [rV (x0 + 5), iV x1]) (rest := []) rfl (lw_S q2165 q2166 q129 q2167) hy_X4_isWaiting.2 rfl rfl (Nat.le_of_ble_eq_true rfl) (Nat.le_of_ble_eq_true rfl) (Nat.le_of_ble_eq_true rfl) (kkI (fun r31 m31 E31 hw => ?_))
      have hw := hw E31
      refine x_if_eq HE 50 dX4_moves_34 (by decide) (fun c34 => ?_) (fun c34 => ?_)
      · have hw := hw.1 c34
        exact w_X4_moves_50 HE hr f0 hw
      · have hw := hw.2 c34
        refine x_aload_n HE 0 dX4_moves_37 rfl rfl ?_
        refine x_gR HE dX4_moves_38 fd_X4_17 q1854 (Or.inl rfl) (Lay_X4.tag (f0.ext (EB.tr (E1.tr (E6.tr (E14.tr E31)))))) (Lay_X4_17 (f0.ext (EB.tr (E1.tr (E6.tr (E14.tr E31)))))).1 ?_
        refine x_iload_n HE 1 dX4_moves_41 rfl rfl ?_
        refine x_iconst HE dX4_moves_42 (by decide) ?_
        refine x_callS HE dX4_moves_43 rfl (fun l => k_X4_its ⟨(Lay_X4_17 (f0.ext (EB.tr (E1.tr (E6.tr (E14.tr E31)))))).2.1, (Lay_X4_17 (f0.ext (EB.tr (E1.tr (E6.tr (E14.tr E31)))))).2.2⟩ l hw) (As := [rV (x0 + 5), iV x1, iV 1]) (rest := []) rfl (lw_S q2168 q2169 q129 q2170) hy_X4_its.2 rfl rfl (Nat.le_of_ble_eq_true rfl) (Nat.le_of_ble_eq_true rfl) (Nat.le_of_ble_eq_true rfl) (kkI (fun r43 m43 E43 hw => ?_))
        have hw := hw E43
        refine x_iload_n HE 2 dX4_moves_46 rfl rfl ?_
        refine x_ic_ne HE 56 dX4_moves_47 (by decide) (fun c47 => ?_) (fun c47 => ?_)
        · have hw := hw.1 c47
          refine x_aload_n HE 0 dX4_moves_56 rfl rfl ?_
          refine x_callV HE dX4_moves_57 rfl (fun l => k_X4_note (f0.ext (EB.tr (E1.tr (E6.tr (E14.tr (E31.tr E43)))))) l hw) (As := []) (rest := []) rfl xc10 (Lay_X4.tag (f0.ext (EB.tr (E1.tr (E6.tr (E14.tr (E31.tr E43))))))) (lw_V q2440 q2442 qs119 q129 q2443) hy_X4_note rfl rfl (Nat.le_of_ble_eq_true rfl) (Nat.le_of_ble_eq_true rfl) (Nat.le_of_ble_eq_true rfl) (kkV (fun m57 E57 hw => ?_))
          have hw := hw E57
          refine x_aload_n HE 0 dX4_moves_60 rfl rfl ?_
          refine x_gR HE dX4_moves_61 fd_X4_17 q1854 (Or.inl rfl) (Lay_X4.tag (f0.ext (EB.tr (E1.tr (E6.tr (E14.tr (E31.tr (E43.tr E57)))))))) (Lay_X4_17 (f0.ext (EB.tr (E1.tr (E6.tr (E14.tr (E31.tr (E43.tr E57)))))))).1 ?_
          refine x_bipush HE dX4_moves_64 (by decide) ?_
          refine x_bipush HE dX4_moves_66 (by decide) ?_
          refine x_iload_n HE 1 dX4_moves_68 rfl rfl ?_
          obtain ⟨v69, hw⟩ := hw
          refine x_imul HE dX4_moves_69 v69 ?_
          obtain ⟨v70, hw⟩ := hw
          refine x_iadd HE dX4_moves_70 v70 ?_
          refine x_iconst HE dX4_moves_71 (by decide) ?_
          obtain ⟨v72, hw⟩ := hw
          refine x_iadd HE dX4_moves_72 v72 ?_
          refine x_iload_n HE 2 dX4_moves_73 rfl rfl ?_
          obtain ⟨i74, hw⟩ := hw
          refine x_iast HE dX4_moves_74 ((Lay_X4_17 (f0.ext (EB.tr (E1.tr (E6.tr (E14.tr (E31.tr (E43.tr E57)))))))).2.1) (ix_of ((Lay_X4_17 (f0.ext (EB.tr (E1.tr (E6.tr (E14.tr (E31.tr (E43.tr E57)))))))).2.2) i74) (fun m74 em74 E74 => ?_)
          have hw := hw m74 em74
          refine x_iconst HE dX4_moves_75 (by decide) ?_
          exact x_zret HE hr dX4_moves_76 (by decide) hw
        · have hw := hw.2 c47
          exact w_X4_moves_50 HE hr f0 hw
    · have hw := hw.2 c17
      exact w_X4_moves_20 HE hr f0 hw
theorem k_X4_moves {G : GT} {x0 x1 x2 : Int} {Q : Int → Hp → Prop} {h : Hp} (f0 : Lay_X4 h x0) (l : Launch) (hw : g_X4_moves x0 x1 x2 Q h) : XM G l yX4_moves cX4_moves 3 (some .boolean) 2 46 [rV x0, iV x1, iV x2] (QI Q) h :=
  XM.of (by decide) (Nat.le_of_ble_eq_true rfl) (fun X HE hr hn => w_X4_moves_0 HE hr f0 hw)
def g_X4_lets_b25 (x0 x1 x2 : Int) (Q : Int → Hp → Prop) (h : Hp) : Prop :=
  g_X4_isNot x0 1 (fun r27 m27 => Ext h m27 → ((r27 = 0 ∨ r27 = 1) ∧ Q r27 m27)) h
theorem w_X4_lets_25 {G : GT} {X : ET} {h0 : Hp} {x0 x1 x2 : Int} (HE : XE G X cX4_lets 3 RX4 3 65 h0) (hr : XR X (some .boolean)) (f0 : Lay_X4 h0 x0) {Q : Int → Hp → Prop} {h : Hp} (hw : g_X4_lets_b25 x0 x1 x2 Q  h) : Wx G X h0 (QI Q) h 25 [some (rV x0), some (iV x1), some (iV x2)] [] := by
  refine Wx.start (fun EB => ?_)
  unfold g_X4_lets_b25 at hw
  refine x_aload_n HE 0 dX4_lets_25 rfl rfl ?_
  refine x_iconst HE dX4_lets_26 (by decide) ?_
  refine x_callV HE dX4_lets_27 rfl (fun l => k_X4_isNot (f0.ext EB) l hw) (As := [iV 1]) (rest := []) rfl xc10 (Lay_X4.tag (f0.ext EB)) (lw_V q2448 q2450 qs120 q129 q2451) hy_X4_isNot rfl rfl (Nat.le_of_ble_eq_true rfl) (Nat.le_of_ble_eq_true rfl) (Nat.le_of_ble_eq_true rfl) (kkI (fun r27 m27 E27 hw => ?_))
  have hw := hw E27
  exact x_zret HE hr dX4_lets_30 hw.1 hw.2
def g_X4_lets (x0 x1 x2 : Int) (Q : Int → Hp → Prop) (h : Hp) : Prop :=
  g_X4_good x0 (fun m1 => Ext h m1 → (g_X4_isPerson x0 x1 (fun r6 m6 => Ext m1 m6 → (((r6 = 0) → (g_X4_lets_b25 x0 x1 x2 Q m6)) ∧ ((r6 ≠ 0) → (g_X4_isPerson x0 x2 (fun r14 m14 => Ext m6 m14 → (((r14 = 0) → (g_X4_lets_b25 x0 x1 x2 Q m14)) ∧ ((r14 ≠ 0) → (((x1 ≠ x2) → (g_X4_canNotLet x0 x1 x2 (fun r34 m34 => Ext m14 m34 → (((r34 = 0) → (g_X4_note x0 (fun m47 => Ext m34 m47 → ((i32 (8 * x1)) ∧ ((i32 (12 + (8 * x1))) ∧ ((i32 ((12 + (8 * x1)) + 3)) ∧ (g_X4_its (x0 + 5) x2 3 (fun r69 m69 => Ext m47 m69 → ((i32 (r69 + 1)) ∧ (((0 : Int) ≤ ((12 + (8 * x1)) + 3) ∧ ((12 + (8 * x1)) + 3) < 108) ∧ (∀ m74 : Hp, m74 = setA m69 (x0 + 5) ((12 + (8 * x1)) + 3) (r69 + 1) → (Q 1 m74))))) m47))))) m34)) ∧ ((r34 ≠ 0) → (g_X4_isNot x0 5 (fun r42 m42 => Ext m34 m42 → ((r42 = 0 ∨ r42 = 1) ∧ Q r42 m42)) m34)))) m14)) ∧ ((x1 = x2) → (g_X4_lets_b25 x0 x1 x2 Q m14)))))) m6)))) m1)) h
theorem w_X4_lets_0 {G : GT} {X : ET} {h0 : Hp} {x0 x1 x2 : Int} (HE : XE G X cX4_lets 3 RX4 3 65 h0) (hr : XR X (some .boolean)) (f0 : Lay_X4 h0 x0) {Q : Int → Hp → Prop} {h : Hp} (hw : g_X4_lets x0 x1 x2 Q h) : Wx G X h0 (QI Q) h 0 [some (rV x0), some (iV x1), some (iV x2)] [] := by
  refine Wx.start (fun EB => ?_)
  unfold g_X4_lets at hw
  refine x_aload_n HE 0 dX4_lets_0 rfl rfl ?_
  refine x_callV HE dX4_lets_1 rfl (fun l => k_X4_good (f0.ext EB) l hw) (As := []) (rest := []) rfl xc10 (Lay_X4.tag (f0.ext EB)) (lw_V q1955 q1957 qs55 q129 q1958) hy_X4_good rfl rfl (Nat.le_of_ble_eq_true rfl) (Nat.le_of_ble_eq_true rfl) (Nat.le_of_ble_eq_true rfl) (kkV (fun m1 E1 hw => ?_))
  have hw := hw E1
  refine x_aload_n HE 0 dX4_lets_4 rfl rfl ?_
  refine x_iload_n HE 1 dX4_lets_5 rfl rfl ?_
  refine x_callV HE dX4_lets_6 rfl (fun l => k_X4_isPerson (f0.ext (EB.tr E1)) l hw) (As := [iV x1]) (rest := []) rfl xc10 (Lay_X4.tag (f0.ext (EB.tr E1))) (lw_V q2144 q2146 qs84 q129 q2147) hy_X4_isPerson rfl rfl (Nat.le_of_ble_eq_true rfl) (Nat.le_of_ble_eq_true rfl) (Nat.le_of_ble_eq_true rfl) (kkI (fun r6 m6 E6 hw => ?_))
  have hw := hw E6
  refine x_if_eq HE 25 dX4_lets_9 (by decide) (fun c9 => ?_) (fun c9 => ?_)
  · have hw := hw.1 c9
    exact w_X4_lets_25 HE hr f0 hw
  · have hw := hw.2 c9
    refine x_aload_n HE 0 dX4_lets_12 rfl rfl ?_
    refine x_iload_n HE 2 dX4_lets_13 rfl rfl ?_
    refine x_callV HE dX4_lets_14 rfl (fun l => k_X4_isPerson (f0.ext (EB.tr (E1.tr E6))) l hw) (As := [iV x2]) (rest := []) rfl xc10 (Lay_X4.tag (f0.ext (EB.tr (E1.tr E6)))) (lw_V q2144 q2146 qs84 q129 q2147) hy_X4_isPerson rfl rfl (Nat.le_of_ble_eq_true rfl) (Nat.le_of_ble_eq_true rfl) (Nat.le_of_ble_eq_true rfl) (kkI (fun r14 m14 E14 hw => ?_))
    have hw := hw E14
    refine x_if_eq HE 25 dX4_lets_17 (by decide) (fun c17 => ?_) (fun c17 => ?_)
    · have hw := hw.1 c17
      exact w_X4_lets_25 HE hr f0 hw
    · have hw := hw.2 c17
      refine x_iload_n HE 1 dX4_lets_20 rfl rfl ?_
      refine x_iload_n HE 2 dX4_lets_21 rfl rfl ?_
      refine x_ic_ne HE 31 dX4_lets_22 (by decide) (fun c22 => ?_) (fun c22 => ?_)
      · have hw := hw.1 c22
        refine x_aload_n HE 0 dX4_lets_31 rfl rfl ?_
        refine x_iload_n HE 1 dX4_lets_32 rfl rfl ?_
        refine x_iload_n HE 2 dX4_lets_33 rfl rfl ?_
        refine x_callV HE dX4_lets_34 rfl (fun l => k_X4_canNotLet (f0.ext (EB.tr (E1.tr (E6.tr E14)))) l hw) (As := [iV x1, iV x2]) (rest := []) rfl xc10 (Lay_X4.tag (f0.ext (EB.tr (E1.tr (E6.tr E14))))) (lw_V q2368 q2370 qs110 q129 q2371) hy_X4_canNotLet rfl rfl (Nat.le_of_ble_eq_true rfl) (Nat.le_of_ble_eq_true rfl) (Nat.le_of_ble_eq_true rfl) (kkI (fun r34 m34 E34 hw => ?_))
        have hw := hw E34
        refine x_if_eq HE 46 dX4_lets_37 (by decide) (fun c37 => ?_) (fun c37 => ?_)
        · have hw := hw.1 c37
          refine x_aload_n HE 0 dX4_lets_46 rfl rfl ?_
          refine x_callV HE dX4_lets_47 rfl (fun l => k_X4_note (f0.ext (EB.tr (E1.tr (E6.tr (E14.tr E34))))) l hw) (As := []) (rest := []) rfl xc10 (Lay_X4.tag (f0.ext (EB.tr (E1.tr (E6.tr (E14.tr E34)))))) (lw_V q2440 q2442 qs119 q129 q2443) hy_X4_note rfl rfl (Nat.le_of_ble_eq_true rfl) (Nat.le_of_ble_eq_true rfl) (Nat.le_of_ble_eq_true rfl) (kkV (fun m47 E47 hw => ?_))
          have hw := hw E47
          refine x_aload_n HE 0 dX4_lets_50 rfl rfl ?_
          refine x_gR HE dX4_lets_51 fd_X4_17 q1854 (Or.inl rfl) (Lay_X4.tag (f0.ext (EB.tr (E1.tr (E6.tr (E14.tr (E34.tr E47))))))) (Lay_X4_17 (f0.ext (EB.tr (E1.tr (E6.tr (E14.tr (E34.tr E47))))))).1 ?_
          refine x_bipush HE dX4_lets_54 (by decide) ?_
          refine x_bipush HE dX4_lets_56 (by decide) ?_
          refine x_iload_n HE 1 dX4_lets_58 rfl rfl ?_
          obtain ⟨v59, hw⟩ := hw
          refine x_imul HE dX4_lets_59 v59 ?_
          obtain ⟨v60, hw⟩ := hw
          refine x_iadd HE dX4_lets_60 v60 ?_
          refine x_iconst HE dX4_lets_61 (by decide) ?_
          obtain ⟨v62, hw⟩ := hw
          refine x_iadd HE dX4_lets_62 v62 ?_
          refine x_aload_n HE 0 dX4_lets_63 rfl rfl ?_
          refine x_gR HE dX4_lets_64 fd_X4_17 q1854 (Or.inl rfl) (Lay_X4.tag (f0.ext (EB.tr (E1.tr (E6.tr (E14.tr (E34.tr E47))))))) (Lay_X4_17 (f0.ext (EB.tr (E1.tr (E6.tr (E14.tr (E34.tr E47))))))).1 ?_
          refine x_iload_n HE 2 dX4_lets_67 rfl rfl ?_
          refine x_iconst HE dX4_lets_68 (by decide) ?_
          refine x_callS HE dX4_lets_69 rfl (fun l => k_X4_its ⟨(Lay_X4_17 (f0.ext (EB.tr (E1.tr (E6.tr (E14.tr (E34.tr E47))))))).2.1, (Lay_X4_17 (f0.ext (EB.tr (E1.tr (E6.tr (E14.tr (E34.tr E47))))))).2.2⟩ l hw) (As := [rV (x0 + 5), iV x2, iV 3]) (rest := [iV ((12 + (8 * x1)) + 3), rV (x0 + 5)]) rfl (lw_S q2168 q2169 q129 q2170) hy_X4_its.2 rfl rfl (Nat.le_of_ble_eq_true rfl) (Nat.le_of_ble_eq_true rfl) (Nat.le_of_ble_eq_true rfl) (kkI (fun r69 m69 E69 hw => ?_))
          have hw := hw E69
          refine x_iconst HE dX4_lets_72 (by decide) ?_
          obtain ⟨v73, hw⟩ := hw
          refine x_iadd HE dX4_lets_73 v73 ?_
          obtain ⟨i74, hw⟩ := hw
          refine x_iast HE dX4_lets_74 ((Lay_X4_17 (f0.ext (EB.tr (E1.tr (E6.tr (E14.tr (E34.tr (E47.tr E69)))))))).2.1) (ix_of ((Lay_X4_17 (f0.ext (EB.tr (E1.tr (E6.tr (E14.tr (E34.tr (E47.tr E69)))))))).2.2) i74) (fun m74 em74 E74 => ?_)
          have hw := hw m74 em74
          refine x_iconst HE dX4_lets_75 (by decide) ?_
          exact x_zret HE hr dX4_lets_76 (by decide) hw
        · have hw := hw.2 c37
          refine x_aload_n HE 0 dX4_lets_40 rfl rfl ?_
          refine x_iconst HE dX4_lets_41 (by decide) ?_
          refine x_callV HE dX4_lets_42 rfl (fun l => k_X4_isNot (f0.ext (EB.tr (E1.tr (E6.tr (E14.tr E34))))) l hw) (As := [iV 5]) (rest := []) rfl xc10 (Lay_X4.tag (f0.ext (EB.tr (E1.tr (E6.tr (E14.tr E34)))))) (lw_V q2448 q2450 qs120 q129 q2451) hy_X4_isNot rfl rfl (Nat.le_of_ble_eq_true rfl) (Nat.le_of_ble_eq_true rfl) (Nat.le_of_ble_eq_true rfl) (kkI (fun r42 m42 E42 hw => ?_))
          have hw := hw E42
          exact x_zret HE hr dX4_lets_45 hw.1 hw.2
      · have hw := hw.2 c22
        exact w_X4_lets_25 HE hr f0 hw
theorem k_X4_lets {G : GT} {x0 x1 x2 : Int} {Q : Int → Hp → Prop} {h : Hp} (f0 : Lay_X4 h x0) (l : Launch) (hw : g_X4_lets x0 x1 x2 Q h) : XM G l yX4_lets cX4_lets 3 (some .boolean) 3 65 [rV x0, iV x1, iV x2] (QI Q) h :=
  XM.of (by decide) (Nat.le_of_ble_eq_true rfl) (fun X HE hr hn => w_X4_lets_0 HE hr f0 hw)
def g_X4_calls_b80 (x0 x1 : Int) (Q : Int → Hp → Prop) (l2 s0 s1 s2 : Int) (h : Hp) : Prop :=
  (hT h s0 = 1) ∧ (((0 : Int) ≤ s1 ∧ s1 < hL h s0) ∧ (∀ m80 : Hp, m80 = setA h s0 s1 s2 → (((0 : Int) ≤ l2 ∧ l2 < 108) ∧ (Q (hA m80 (x0 + 5) l2) m80))))
theorem w_X4_calls_80 {G : GT} {X : ET} {h0 : Hp} {x0 x1 : Int} (HE : XE G X cX4_calls 3 RX4 2 46 h0) (hr : XR X (some .int)) (f0 : Lay_X4 h0 x0) {Q : Int → Hp → Prop} {l2 s0 s1 s2 : Int} {h : Hp} (hw : g_X4_calls_b80 x0 x1 Q l2 s0 s1 s2 h) : Wx G X h0 (QI Q) h 80 [some (rV x0), some (iV x1), some (iV l2)] [iV s2, iV s1, rV s0] := by
  refine Wx.start (fun EB => ?_)
  unfold g_X4_calls_b80 at hw
  obtain ⟨v80, hw⟩ := hw
  obtain ⟨i80, hw⟩ := hw
  refine x_iast HE dX4_calls_80 v80 i80 (fun m80 em80 E80 => ?_)
  have hw := hw m80 em80
  refine x_aload_n HE 0 dX4_calls_81 rfl rfl ?_
  refine x_gR HE dX4_calls_82 fd_X4_17 q1854 (Or.inl rfl) (Lay_X4.tag (f0.ext (EB.tr E80))) (Lay_X4_17 (f0.ext (EB.tr E80))).1 ?_
  refine x_iload_n HE 2 dX4_calls_85 rfl rfl ?_
  obtain ⟨i86, hw⟩ := hw
  refine x_iald HE dX4_calls_86 (t := 1) (by decide) ((Lay_X4_17 (f0.ext (EB.tr E80))).2.1) (ix_of ((Lay_X4_17 (f0.ext (EB.tr E80))).2.2) i86) rfl ?_
  exact x_iret HE hr dX4_calls_87 hw
def g_X4_calls (x0 x1 : Int) (Q : Int → Hp → Prop) (h : Hp) : Prop :=
  g_X4_good x0 (fun m1 => Ext h m1 → (g_X4_isPerson x0 x1 (fun r6 m6 => Ext m1 m6 → (((r6 ≠ 0) → (g_X4_isWaiting (x0 + 5) x1 (fun r23 m23 => Ext m6 m23 → (((r23 ≠ 0) → (g_X4_note x0 (fun m36 => Ext m23 m36 → ((i32 (8 * x1)) ∧ ((i32 (12 + (8 * x1))) ∧ ((i32 ((12 + (8 * x1)) + 2)) ∧ (∀ y48 : Int, y48 = ((12 + (8 * x1)) + 2) → (((0 : Int) ≤ y48 ∧ y48 < 108) ∧ ((i32 ((hA m36 (x0 + 5) y48) + 5)) ∧ (((((hA m36 (x0 + 5) y48) + 5) ≤ 99) → (((0 : Int) ≤ y48 ∧ y48 < 108) ∧ ((i32 ((hA m36 (x0 + 5) y48) + 5)) ∧ (g_X4_calls_b80 x0 x1 Q y48 (x0 + 5) y48 ((hA m36 (x0 + 5) y48) + 5) m36)))) ∧ ((99 < ((hA m36 (x0 + 5) y48) + 5)) → (g_X4_calls_b80 x0 x1 Q y48 (x0 + 5) y48 99 m36)))))))))) m23)) ∧ ((r23 = 0) → (g_X4_no x0 5 (fun r31 m31 => Ext m23 m31 → (Q r31 m31)) m23)))) m6)) ∧ ((r6 = 0) → (g_X4_no x0 1 (fun r14 m14 => Ext m6 m14 → (Q r14 m14)) m6)))) m1)) h
theorem w_X4_calls_0 {G : GT} {X : ET} {h0 : Hp} {x0 x1 : Int} (HE : XE G X cX4_calls 3 RX4 2 46 h0) (hr : XR X (some .int)) (f0 : Lay_X4 h0 x0) {Q : Int → Hp → Prop} {h : Hp} (hw : g_X4_calls x0 x1 Q h) : Wx G X h0 (QI Q) h 0 [some (rV x0), some (iV x1), none] [] := by
  refine Wx.start (fun EB => ?_)
  unfold g_X4_calls at hw
  refine x_aload_n HE 0 dX4_calls_0 rfl rfl ?_
  refine x_callV HE dX4_calls_1 rfl (fun l => k_X4_good (f0.ext EB) l hw) (As := []) (rest := []) rfl xc10 (Lay_X4.tag (f0.ext EB)) (lw_V q1955 q1957 qs55 q129 q1958) hy_X4_good rfl rfl (Nat.le_of_ble_eq_true rfl) (Nat.le_of_ble_eq_true rfl) (Nat.le_of_ble_eq_true rfl) (kkV (fun m1 E1 hw => ?_))
  have hw := hw E1
  refine x_aload_n HE 0 dX4_calls_4 rfl rfl ?_
  refine x_iload_n HE 1 dX4_calls_5 rfl rfl ?_
  refine x_callV HE dX4_calls_6 rfl (fun l => k_X4_isPerson (f0.ext (EB.tr E1)) l hw) (As := [iV x1]) (rest := []) rfl xc10 (Lay_X4.tag (f0.ext (EB.tr E1))) (lw_V q2144 q2146 qs84 q129 q2147) hy_X4_isPerson rfl rfl (Nat.le_of_ble_eq_true rfl) (Nat.le_of_ble_eq_true rfl) (Nat.le_of_ble_eq_true rfl) (kkI (fun r6 m6 E6 hw => ?_))
  have hw := hw E6
  refine x_if_ne HE 18 dX4_calls_9 (by decide) (fun c9 => ?_) (fun c9 => ?_)
  · have hw := hw.1 c9
    refine x_aload_n HE 0 dX4_calls_18 rfl rfl ?_
    refine x_gR HE dX4_calls_19 fd_X4_17 q1854 (Or.inl rfl) (Lay_X4.tag (f0.ext (EB.tr (E1.tr E6)))) (Lay_X4_17 (f0.ext (EB.tr (E1.tr E6)))).1 ?_
    refine x_iload_n HE 1 dX4_calls_22 rfl rfl ?_
    refine x_callS HE dX4_calls_23 rfl (fun l => k_X4_isWaiting ⟨(Lay_X4_17 (f0.ext (EB.tr (E1.tr E6)))).2.1, (Lay_X4_17 (f0.ext (EB.tr (E1.tr E6)))).2.2⟩ l hw) (As := [rV (x0 + 5), iV x1]) (rest := []) rfl (lw_S q2165 q2166 q129 q2167) hy_X4_isWaiting.2 rfl rfl (Nat.le_of_ble_eq_true rfl) (Nat.le_of_ble_eq_true rfl) (Nat.le_of_ble_eq_true rfl) (kkI (fun r23 m23 E23 hw => ?_))
    have hw := hw E23
    refine x_if_ne HE 35 dX4_calls_26 (by decide) (fun c26 => ?_) (fun c26 => ?_)
    · have hw := hw.1 c26
      refine x_aload_n HE 0 dX4_calls_35 rfl rfl ?_
      refine x_callV HE dX4_calls_36 rfl (fun l => k_X4_note (f0.ext (EB.tr (E1.tr (E6.tr E23)))) l hw) (As := []) (rest := []) rfl xc10 (Lay_X4.tag (f0.ext (EB.tr (E1.tr (E6.tr E23))))) (lw_V q2440 q2442 qs119 q129 q2443) hy_X4_note rfl rfl (Nat.le_of_ble_eq_true rfl) (Nat.le_of_ble_eq_true rfl) (Nat.le_of_ble_eq_true rfl) (kkV (fun m36 E36 hw => ?_))
      have hw := hw E36
      refine x_bipush HE dX4_calls_39 (by decide) ?_
      refine x_bipush HE dX4_calls_41 (by decide) ?_
      refine x_iload_n HE 1 dX4_calls_43 rfl rfl ?_
      obtain ⟨v44, hw⟩ := hw
      refine x_imul HE dX4_calls_44 v44 ?_
      obtain ⟨v45, hw⟩ := hw
      refine x_iadd HE dX4_calls_45 v45 ?_
      refine x_iconst HE dX4_calls_46 (by decide) ?_
      obtain ⟨v47, hw⟩ := hw
      refine x_iadd HE dX4_calls_47 v47 ?_
      refine x_istore_nN HE 2 (fun y48 => [some (rV x0), some (iV x1), some (iV y48)]) dX4_calls_48 rfl (Nat.le_of_ble_eq_true rfl) (fun _ => rfl) (fun y48 ey48 => ?_)
      have hw := hw y48 ey48
      refine x_aload_n HE 0 dX4_calls_49 rfl rfl ?_
      refine x_gR HE dX4_calls_50 fd_X4_17 q1854 (Or.inl rfl) (Lay_X4.tag (f0.ext (EB.tr (E1.tr (E6.tr (E23.tr E36)))))) (Lay_X4_17 (f0.ext (EB.tr (E1.tr (E6.tr (E23.tr E36)))))).1 ?_
      refine x_iload_n HE 2 dX4_calls_53 rfl rfl ?_
      refine x_aload_n HE 0 dX4_calls_54 rfl rfl ?_
      refine x_gR HE dX4_calls_55 fd_X4_17 q1854 (Or.inl rfl) (Lay_X4.tag (f0.ext (EB.tr (E1.tr (E6.tr (E23.tr E36)))))) (Lay_X4_17 (f0.ext (EB.tr (E1.tr (E6.tr (E23.tr E36)))))).1 ?_
      refine x_iload_n HE 2 dX4_calls_58 rfl rfl ?_
      obtain ⟨i59, hw⟩ := hw
      refine x_iald HE dX4_calls_59 (t := 1) (by decide) ((Lay_X4_17 (f0.ext (EB.tr (E1.tr (E6.tr (E23.tr E36)))))).2.1) (ix_of ((Lay_X4_17 (f0.ext (EB.tr (E1.tr (E6.tr (E23.tr E36)))))).2.2) i59) rfl ?_
      refine x_iconst HE dX4_calls_60 (by decide) ?_
      obtain ⟨v61, hw⟩ := hw
      refine x_iadd HE dX4_calls_61 v61 ?_
      refine x_bipush HE dX4_calls_62 (by decide) ?_
      refine x_ic_le HE 72 dX4_calls_64 (by decide) (fun c64 => ?_) (fun c64 => ?_)
      · have hw := hw.1 c64
        refine x_aload_n HE 0 dX4_calls_72 rfl rfl ?_
        refine x_gR HE dX4_calls_73 fd_X4_17 q1854 (Or.inl rfl) (Lay_X4.tag (f0.ext (EB.tr (E1.tr (E6.tr (E23.tr E36)))))) (Lay_X4_17 (f0.ext (EB.tr (E1.tr (E6.tr (E23.tr E36)))))).1 ?_
        refine x_iload_n HE 2 dX4_calls_76 rfl rfl ?_
        obtain ⟨i77, hw⟩ := hw
        refine x_iald HE dX4_calls_77 (t := 1) (by decide) ((Lay_X4_17 (f0.ext (EB.tr (E1.tr (E6.tr (E23.tr E36)))))).2.1) (ix_of ((Lay_X4_17 (f0.ext (EB.tr (E1.tr (E6.tr (E23.tr E36)))))).2.2) i77) rfl ?_
        refine x_iconst HE dX4_calls_78 (by decide) ?_
        obtain ⟨v79, hw⟩ := hw
        refine x_iadd HE dX4_calls_79 v79 ?_
        exact w_X4_calls_80 HE hr f0 hw
      · have hw := hw.2 c64
        refine x_bipush HE dX4_calls_67 (by decide) ?_
        refine x_goto HE 80 dX4_calls_69 (by decide) ?_
        exact w_X4_calls_80 HE hr f0 hw
    · have hw := hw.2 c26
      refine x_aload_n HE 0 dX4_calls_29 rfl rfl ?_
      refine x_iconst HE dX4_calls_30 (by decide) ?_
      refine x_callV HE dX4_calls_31 rfl (fun l => k_X4_no (f0.ext (EB.tr (E1.tr (E6.tr E23)))) l hw) (As := [iV 5]) (rest := []) rfl xc10 (Lay_X4.tag (f0.ext (EB.tr (E1.tr (E6.tr E23))))) (lw_V q1962 q1964 qs56 q129 q1965) hy_X4_no rfl rfl (Nat.le_of_ble_eq_true rfl) (Nat.le_of_ble_eq_true rfl) (Nat.le_of_ble_eq_true rfl) (kkI (fun r31 m31 E31 hw => ?_))
      have hw := hw E31
      exact x_iret HE hr dX4_calls_34 hw
  · have hw := hw.2 c9
    refine x_aload_n HE 0 dX4_calls_12 rfl rfl ?_
    refine x_iconst HE dX4_calls_13 (by decide) ?_
    refine x_callV HE dX4_calls_14 rfl (fun l => k_X4_no (f0.ext (EB.tr (E1.tr E6))) l hw) (As := [iV 1]) (rest := []) rfl xc10 (Lay_X4.tag (f0.ext (EB.tr (E1.tr E6)))) (lw_V q1962 q1964 qs56 q129 q1965) hy_X4_no rfl rfl (Nat.le_of_ble_eq_true rfl) (Nat.le_of_ble_eq_true rfl) (Nat.le_of_ble_eq_true rfl) (kkI (fun r14 m14 E14 hw => ?_))
    have hw := hw E14
    exact x_iret HE hr dX4_calls_17 hw
theorem k_X4_calls {G : GT} {x0 x1 : Int} {Q : Int → Hp → Prop} {h : Hp} (f0 : Lay_X4 h x0) (l : Launch) (hw : g_X4_calls x0 x1 Q h) : XM G l yX4_calls cX4_calls 3 (some .int) 2 46 [rV x0, iV x1] (QI Q) h :=
  XM.of (by decide) (Nat.le_of_ble_eq_true rfl) (fun X HE hr hn => w_X4_calls_0 HE hr f0 hw)
def g_X4_leaves (x0 x1 : Int) (Q : Int → Hp → Prop) (h : Hp) : Prop :=
  g_X4_good x0 (fun m1 => Ext h m1 → (g_X4_isPerson x0 x1 (fun r6 m6 => Ext m1 m6 → (((r6 ≠ 0) → (g_X4_isWaiting (x0 + 5) x1 (fun r23 m23 => Ext m6 m23 → (((r23 ≠ 0) → (g_X4_note x0 (fun m36 => Ext m23 m36 → ((i32 (8 * x1)) ∧ ((i32 (12 + (8 * x1))) ∧ ((i32 ((12 + (8 * x1)) + 0)) ∧ (((0 : Int) ≤ ((12 + (8 * x1)) + 0) ∧ ((12 + (8 * x1)) + 0) < 108) ∧ (∀ m53 : Hp, m53 = setA m36 (x0 + 5) ((12 + (8 * x1)) + 0) 5 → ((i32 (8 * x1)) ∧ ((i32 (12 + (8 * x1))) ∧ ((i32 ((12 + (8 * x1)) + 7)) ∧ (((0 : Int) ≤ ((12 + (8 * x1)) + 7) ∧ ((12 + (8 * x1)) + 7) < 108) ∧ (∀ m74 : Hp, m74 = setA m53 (x0 + 5) ((12 + (8 * x1)) + 7) (hA m53 (x0 + 5) 0) → (Q 1 m74)))))))))))) m23)) ∧ ((r23 = 0) → (g_X4_isNot x0 5 (fun r31 m31 => Ext m23 m31 → ((r31 = 0 ∨ r31 = 1) ∧ Q r31 m31)) m23)))) m6)) ∧ ((r6 = 0) → (g_X4_isNot x0 1 (fun r14 m14 => Ext m6 m14 → ((r14 = 0 ∨ r14 = 1) ∧ Q r14 m14)) m6)))) m1)) h
theorem w_X4_leaves_0 {G : GT} {X : ET} {h0 : Hp} {x0 x1 : Int} (HE : XE G X cX4_leaves 2 RX4 2 46 h0) (hr : XR X (some .boolean)) (f0 : Lay_X4 h0 x0) {Q : Int → Hp → Prop} {h : Hp} (hw : g_X4_leaves x0 x1 Q h) : Wx G X h0 (QI Q) h 0 [some (rV x0), some (iV x1)] [] := by
  refine Wx.start (fun EB => ?_)
  unfold g_X4_leaves at hw
  refine x_aload_n HE 0 dX4_leaves_0 rfl rfl ?_
  refine x_callV HE dX4_leaves_1 rfl (fun l => k_X4_good (f0.ext EB) l hw) (As := []) (rest := []) rfl xc10 (Lay_X4.tag (f0.ext EB)) (lw_V q1955 q1957 qs55 q129 q1958) hy_X4_good rfl rfl (Nat.le_of_ble_eq_true rfl) (Nat.le_of_ble_eq_true rfl) (Nat.le_of_ble_eq_true rfl) (kkV (fun m1 E1 hw => ?_))
  have hw := hw E1
  refine x_aload_n HE 0 dX4_leaves_4 rfl rfl ?_
  refine x_iload_n HE 1 dX4_leaves_5 rfl rfl ?_
  refine x_callV HE dX4_leaves_6 rfl (fun l => k_X4_isPerson (f0.ext (EB.tr E1)) l hw) (As := [iV x1]) (rest := []) rfl xc10 (Lay_X4.tag (f0.ext (EB.tr E1))) (lw_V q2144 q2146 qs84 q129 q2147) hy_X4_isPerson rfl rfl (Nat.le_of_ble_eq_true rfl) (Nat.le_of_ble_eq_true rfl) (Nat.le_of_ble_eq_true rfl) (kkI (fun r6 m6 E6 hw => ?_))
  have hw := hw E6
  refine x_if_ne HE 18 dX4_leaves_9 (by decide) (fun c9 => ?_) (fun c9 => ?_)
  · have hw := hw.1 c9
    refine x_aload_n HE 0 dX4_leaves_18 rfl rfl ?_
    refine x_gR HE dX4_leaves_19 fd_X4_17 q1854 (Or.inl rfl) (Lay_X4.tag (f0.ext (EB.tr (E1.tr E6)))) (Lay_X4_17 (f0.ext (EB.tr (E1.tr E6)))).1 ?_
    refine x_iload_n HE 1 dX4_leaves_22 rfl rfl ?_
    refine x_callS HE dX4_leaves_23 rfl (fun l => k_X4_isWaiting ⟨(Lay_X4_17 (f0.ext (EB.tr (E1.tr E6)))).2.1, (Lay_X4_17 (f0.ext (EB.tr (E1.tr E6)))).2.2⟩ l hw) (As := [rV (x0 + 5), iV x1]) (rest := []) rfl (lw_S q2165 q2166 q129 q2167) hy_X4_isWaiting.2 rfl rfl (Nat.le_of_ble_eq_true rfl) (Nat.le_of_ble_eq_true rfl) (Nat.le_of_ble_eq_true rfl) (kkI (fun r23 m23 E23 hw => ?_))
    have hw := hw E23
    refine x_if_ne HE 35 dX4_leaves_26 (by decide) (fun c26 => ?_) (fun c26 => ?_)
    · have hw := hw.1 c26
      refine x_aload_n HE 0 dX4_leaves_35 rfl rfl ?_
      refine x_callV HE dX4_leaves_36 rfl (fun l => k_X4_note (f0.ext (EB.tr (E1.tr (E6.tr E23)))) l hw) (As := []) (rest := []) rfl xc10 (Lay_X4.tag (f0.ext (EB.tr (E1.tr (E6.tr E23))))) (lw_V q2440 q2442 qs119 q129 q2443) hy_X4_note rfl rfl (Nat.le_of_ble_eq_true rfl) (Nat.le_of_ble_eq_true rfl) (Nat.le_of_ble_eq_true rfl) (kkV (fun m36 E36 hw => ?_))
      have hw := hw E36
      refine x_aload_n HE 0 dX4_leaves_39 rfl rfl ?_
      refine x_gR HE dX4_leaves_40 fd_X4_17 q1854 (Or.inl rfl) (Lay_X4.tag (f0.ext (EB.tr (E1.tr (E6.tr (E23.tr E36)))))) (Lay_X4_17 (f0.ext (EB.tr (E1.tr (E6.tr (E23.tr E36)))))).1 ?_
      refine x_bipush HE dX4_leaves_43 (by decide) ?_
      refine x_bipush HE dX4_leaves_45 (by decide) ?_
      refine x_iload_n HE 1 dX4_leaves_47 rfl rfl ?_
      obtain ⟨v48, hw⟩ := hw
      refine x_imul HE dX4_leaves_48 v48 ?_
      obtain ⟨v49, hw⟩ := hw
      refine x_iadd HE dX4_leaves_49 v49 ?_
      refine x_iconst HE dX4_leaves_50 (by decide) ?_
      obtain ⟨v51, hw⟩ := hw
      refine x_iadd HE dX4_leaves_51 v51 ?_
      refine x_iconst HE dX4_leaves_52 (by decide) ?_
      obtain ⟨i53, hw⟩ := hw
      refine x_iast HE dX4_leaves_53 ((Lay_X4_17 (f0.ext (EB.tr (E1.tr (E6.tr (E23.tr E36)))))).2.1) (ix_of ((Lay_X4_17 (f0.ext (EB.tr (E1.tr (E6.tr (E23.tr E36)))))).2.2) i53) (fun m53 em53 E53 => ?_)
      have hw := hw m53 em53
      refine x_aload_n HE 0 dX4_leaves_54 rfl rfl ?_
      refine x_gR HE dX4_leaves_55 fd_X4_17 q1854 (Or.inl rfl) (Lay_X4.tag (f0.ext (EB.tr (E1.tr (E6.tr (E23.tr (E36.tr E53))))))) (Lay_X4_17 (f0.ext (EB.tr (E1.tr (E6.tr (E23.tr (E36.tr E53))))))).1 ?_
      refine x_bipush HE dX4_leaves_58 (by decide) ?_
      refine x_bipush HE dX4_leaves_60 (by decide) ?_
      refine x_iload_n HE 1 dX4_leaves_62 rfl rfl ?_
      obtain ⟨v63, hw⟩ := hw
      refine x_imul HE dX4_leaves_63 v63 ?_
      obtain ⟨v64, hw⟩ := hw
      refine x_iadd HE dX4_leaves_64 v64 ?_
      refine x_bipush HE dX4_leaves_65 (by decide) ?_
      obtain ⟨v67, hw⟩ := hw
      refine x_iadd HE dX4_leaves_67 v67 ?_
      refine x_aload_n HE 0 dX4_leaves_68 rfl rfl ?_
      refine x_gR HE dX4_leaves_69 fd_X4_17 q1854 (Or.inl rfl) (Lay_X4.tag (f0.ext (EB.tr (E1.tr (E6.tr (E23.tr (E36.tr E53))))))) (Lay_X4_17 (f0.ext (EB.tr (E1.tr (E6.tr (E23.tr (E36.tr E53))))))).1 ?_
      refine x_iconst HE dX4_leaves_72 (by decide) ?_
      refine x_iald HE dX4_leaves_73 (t := 1) (by decide) ((Lay_X4_17 (f0.ext (EB.tr (E1.tr (E6.tr (E23.tr (E36.tr E53))))))).2.1) (ix_of ((Lay_X4_17 (f0.ext (EB.tr (E1.tr (E6.tr (E23.tr (E36.tr E53))))))).2.2) (by decide)) rfl ?_
      obtain ⟨i74, hw⟩ := hw
      refine x_iast HE dX4_leaves_74 ((Lay_X4_17 (f0.ext (EB.tr (E1.tr (E6.tr (E23.tr (E36.tr E53))))))).2.1) (ix_of ((Lay_X4_17 (f0.ext (EB.tr (E1.tr (E6.tr (E23.tr (E36.tr E53))))))).2.2) i74) (fun m74 em74 E74 => ?_)
      have hw := hw m74 em74
      refine x_iconst HE dX4_leaves_75 (by decide) ?_
      exact x_zret HE hr dX4_leaves_76 (by decide) hw
    · have hw := hw.2 c26
      refine x_aload_n HE 0 dX4_leaves_29 rfl rfl ?_
      refine x_iconst HE dX4_leaves_30 (by decide) ?_
      refine x_callV HE dX4_leaves_31 rfl (fun l => k_X4_isNot (f0.ext (EB.tr (E1.tr (E6.tr E23)))) l hw) (As := [iV 5]) (rest := []) rfl xc10 (Lay_X4.tag (f0.ext (EB.tr (E1.tr (E6.tr E23))))) (lw_V q2448 q2450 qs120 q129 q2451) hy_X4_isNot rfl rfl (Nat.le_of_ble_eq_true rfl) (Nat.le_of_ble_eq_true rfl) (Nat.le_of_ble_eq_true rfl) (kkI (fun r31 m31 E31 hw => ?_))
      have hw := hw E31
      exact x_zret HE hr dX4_leaves_34 hw.1 hw.2
  · have hw := hw.2 c9
    refine x_aload_n HE 0 dX4_leaves_12 rfl rfl ?_
    refine x_iconst HE dX4_leaves_13 (by decide) ?_
    refine x_callV HE dX4_leaves_14 rfl (fun l => k_X4_isNot (f0.ext (EB.tr (E1.tr E6))) l hw) (As := [iV 1]) (rest := []) rfl xc10 (Lay_X4.tag (f0.ext (EB.tr (E1.tr E6)))) (lw_V q2448 q2450 qs120 q129 q2451) hy_X4_isNot rfl rfl (Nat.le_of_ble_eq_true rfl) (Nat.le_of_ble_eq_true rfl) (Nat.le_of_ble_eq_true rfl) (kkI (fun r14 m14 E14 hw => ?_))
    have hw := hw E14
    exact x_zret HE hr dX4_leaves_17 hw.1 hw.2
theorem k_X4_leaves {G : GT} {x0 x1 : Int} {Q : Int → Hp → Prop} {h : Hp} (f0 : Lay_X4 h x0) (l : Launch) (hw : g_X4_leaves x0 x1 Q h) : XM G l yX4_leaves cX4_leaves 2 (some .boolean) 2 46 [rV x0, iV x1] (QI Q) h :=
  XM.of (by decide) (Nat.le_of_ble_eq_true rfl) (fun X HE hr hn => w_X4_leaves_0 HE hr f0 hw)
def g_X4_undo (x0 : Int) (Q : Int → Hp → Prop) (h : Hp) : Prop :=
  g_X4_good x0 (fun m1 => Ext h m1 → ((((hF m1 x0 21) ≠ 0) → ((i32 ((hF m1 x0 21) - 1)) ∧ (∀ m25 : Hp, m25 = setF m1 x0 21 ((hF m1 x0 21) - 1) → ((i32 (108 * (hF m25 x0 21))) ∧ (g_X4_copy (x0 + 7) (108 * (hF m25 x0 21)) (x0 + 5) 0 108 (fun m46 => Ext m25 m46 → (Q 1 m46)) m25))))) ∧ (((hF m1 x0 21) = 0) → (g_X4_isNot x0 6 (fun r14 m14 => Ext m1 m14 → ((r14 = 0 ∨ r14 = 1) ∧ Q r14 m14)) m1)))) h
theorem w_X4_undo_0 {G : GT} {X : ET} {h0 : Hp} {x0 : Int} (HE : XE G X cX4_undo 1 RX4 1 25 h0) (hr : XR X (some .boolean)) (f0 : Lay_X4 h0 x0) {Q : Int → Hp → Prop} {h : Hp} (hw : g_X4_undo x0 Q h) : Wx G X h0 (QI Q) h 0 [some (rV x0)] [] := by
  refine Wx.start (fun EB => ?_)
  unfold g_X4_undo at hw
  refine x_aload_n HE 0 dX4_undo_0 rfl rfl ?_
  refine x_callV HE dX4_undo_1 rfl (fun l => k_X4_good (f0.ext EB) l hw) (As := []) (rest := []) rfl xc10 (Lay_X4.tag (f0.ext EB)) (lw_V q1955 q1957 qs55 q129 q1958) hy_X4_good rfl rfl (Nat.le_of_ble_eq_true rfl) (Nat.le_of_ble_eq_true rfl) (Nat.le_of_ble_eq_true rfl) (kkV (fun m1 E1 hw => ?_))
  have hw := hw E1
  refine x_aload_n HE 0 dX4_undo_4 rfl rfl ?_
  refine x_gI HE dX4_undo_5 fd_X4_21 q1858 (Or.inl rfl) (Lay_X4.tag (f0.ext (EB.tr E1))) rfl ?_
  refine x_if_ne HE 18 dX4_undo_8 (by decide) (fun c8 => ?_) (fun c8 => ?_)
  · have hw := hw.1 c8
    refine x_aload_n HE 0 dX4_undo_18 rfl rfl ?_
    refine x_dup HE dX4_undo_19 (fun o => o) ?_
    refine x_gI HE dX4_undo_20 fd_X4_21 q1858 (Or.inl rfl) (Lay_X4.tag (f0.ext (EB.tr E1))) rfl ?_
    refine x_iconst HE dX4_undo_23 (by decide) ?_
    obtain ⟨v24, hw⟩ := hw
    refine x_isub HE dX4_undo_24 v24 ?_
    refine x_pI HE dX4_undo_25 fd_X4_21 q1858 (Or.inl rfl) (Or.inl rfl) (nf_int _) (Lay_X4.tag (f0.ext (EB.tr E1))) (nro (by decide)) (Or.inl nf_X4_21) (fun m25 em25 E25 => ?_)
    have hw := hw m25 em25
    refine x_aload_n HE 0 dX4_undo_28 rfl rfl ?_
    refine x_gR HE dX4_undo_29 fd_X4_19 q1856 (Or.inl rfl) (Lay_X4.tag (f0.ext (EB.tr (E1.tr E25)))) (Lay_X4_19 (f0.ext (EB.tr (E1.tr E25)))).1 ?_
    refine x_bipush HE dX4_undo_32 (by decide) ?_
    refine x_aload_n HE 0 dX4_undo_34 rfl rfl ?_
    refine x_gI HE dX4_undo_35 fd_X4_21 q1858 (Or.inl rfl) (Lay_X4.tag (f0.ext (EB.tr (E1.tr E25)))) rfl ?_
    obtain ⟨v38, hw⟩ := hw
    refine x_imul HE dX4_undo_38 v38 ?_
    refine x_aload_n HE 0 dX4_undo_39 rfl rfl ?_
    refine x_gR HE dX4_undo_40 fd_X4_17 q1854 (Or.inl rfl) (Lay_X4.tag (f0.ext (EB.tr (E1.tr E25)))) (Lay_X4_17 (f0.ext (EB.tr (E1.tr E25)))).1 ?_
    refine x_iconst HE dX4_undo_43 (by decide) ?_
    refine x_bipush HE dX4_undo_44 (by decide) ?_
    refine x_callS HE dX4_undo_46 rfl (fun l => k_X4_copy  l hw) (As := [rV (x0 + 7), iV (108 * (hF m25 x0 21)), rV (x0 + 5), iV 0, iV 108]) (rest := []) rfl (lw_S q2113 q2114 q129 q2115) hy_X4_copy.2 rfl rfl (Nat.le_of_ble_eq_true rfl) (Nat.le_of_ble_eq_true rfl) (Nat.le_of_ble_eq_true rfl) (kkV (fun m46 E46 hw => ?_))
    have hw := hw E46
    refine x_iconst HE dX4_undo_49 (by decide) ?_
    exact x_zret HE hr dX4_undo_50 (by decide) hw
  · have hw := hw.2 c8
    refine x_aload_n HE 0 dX4_undo_11 rfl rfl ?_
    refine x_bipush HE dX4_undo_12 (by decide) ?_
    refine x_callV HE dX4_undo_14 rfl (fun l => k_X4_isNot (f0.ext (EB.tr E1)) l hw) (As := [iV 6]) (rest := []) rfl xc10 (Lay_X4.tag (f0.ext (EB.tr E1))) (lw_V q2448 q2450 qs120 q129 q2451) hy_X4_isNot rfl rfl (Nat.le_of_ble_eq_true rfl) (Nat.le_of_ble_eq_true rfl) (Nat.le_of_ble_eq_true rfl) (kkI (fun r14 m14 E14 hw => ?_))
    have hw := hw E14
    exact x_zret HE hr dX4_undo_17 hw.1 hw.2
theorem k_X4_undo {G : GT} {x0 : Int} {Q : Int → Hp → Prop} {h : Hp} (f0 : Lay_X4 h x0) (l : Launch) (hw : g_X4_undo x0 Q h) : XM G l yX4_undo cX4_undo 1 (some .boolean) 1 25 [rV x0] (QI Q) h :=
  XM.of (by decide) (Nat.le_of_ble_eq_true rfl) (fun X HE hr hn => w_X4_undo_0 HE hr f0 hw)
def g_X4_image (x0 : Int) (Q : Int → Hp → Prop) (h : Hp) : Prop :=
  g_X4_good x0 (fun m1 => Ext h m1 → ((((hF m1 x0 14) ≠ 0) → ((((hF m1 x0 22) ≠ 3) → ((i32 (108 * (hF m1 x0 22))) ∧ (g_X4_copy (x0 + 5) 0 (x0 + 8) (108 * (hF m1 x0 22)) 108 (fun m49 => Ext m1 m49 → ((i32 ((hF m49 x0 22) + 1)) ∧ (∀ m59 : Hp, m59 = setF m49 x0 22 ((hF m49 x0 22) + 1) → ((i32 ((hF m59 x0 22) - 1)) ∧ (Q ((hF m59 x0 22) - 1) m59))))) m1))) ∧ (((hF m1 x0 22) = 3) → (g_X4_no x0 3 (fun r27 m27 => Ext m1 m27 → (Q r27 m27)) m1)))) ∧ (((hF m1 x0 14) = 0) → (g_X4_no x0 1 (fun r13 m13 => Ext m1 m13 → (Q r13 m13)) m1)))) h
theorem w_X4_image_0 {G : GT} {X : ET} {h0 : Hp} {x0 : Int} (HE : XE G X cX4_image 1 RX4 1 25 h0) (hr : XR X (some .int)) (f0 : Lay_X4 h0 x0) {Q : Int → Hp → Prop} {h : Hp} (hw : g_X4_image x0 Q h) : Wx G X h0 (QI Q) h 0 [some (rV x0)] [] := by
  refine Wx.start (fun EB => ?_)
  unfold g_X4_image at hw
  refine x_aload_n HE 0 dX4_image_0 rfl rfl ?_
  refine x_callV HE dX4_image_1 rfl (fun l => k_X4_good (f0.ext EB) l hw) (As := []) (rest := []) rfl xc10 (Lay_X4.tag (f0.ext EB)) (lw_V q1955 q1957 qs55 q129 q1958) hy_X4_good rfl rfl (Nat.le_of_ble_eq_true rfl) (Nat.le_of_ble_eq_true rfl) (Nat.le_of_ble_eq_true rfl) (kkV (fun m1 E1 hw => ?_))
  have hw := hw E1
  refine x_aload_n HE 0 dX4_image_4 rfl rfl ?_
  refine x_gI HE dX4_image_5 fd_X4_14 q1851 (Or.inl rfl) (Lay_X4.tag (f0.ext (EB.tr E1))) rfl ?_
  refine x_if_ne HE 17 dX4_image_8 (by decide) (fun c8 => ?_) (fun c8 => ?_)
  · have hw := hw.1 c8
    refine x_aload_n HE 0 dX4_image_17 rfl rfl ?_
    refine x_gI HE dX4_image_18 fd_X4_22 q1859 (Or.inl rfl) (Lay_X4.tag (f0.ext (EB.tr E1))) rfl ?_
    refine x_iconst HE dX4_image_21 (by decide) ?_
    refine x_ic_ne HE 31 dX4_image_22 (by decide) (fun c22 => ?_) (fun c22 => ?_)
    · have hw := hw.1 c22
      refine x_aload_n HE 0 dX4_image_31 rfl rfl ?_
      refine x_gR HE dX4_image_32 fd_X4_17 q1854 (Or.inl rfl) (Lay_X4.tag (f0.ext (EB.tr E1))) (Lay_X4_17 (f0.ext (EB.tr E1))).1 ?_
      refine x_iconst HE dX4_image_35 (by decide) ?_
      refine x_aload_n HE 0 dX4_image_36 rfl rfl ?_
      refine x_gR HE dX4_image_37 fd_X4_20 q1857 (Or.inl rfl) (Lay_X4.tag (f0.ext (EB.tr E1))) (Lay_X4_20 (f0.ext (EB.tr E1))).1 ?_
      refine x_bipush HE dX4_image_40 (by decide) ?_
      refine x_aload_n HE 0 dX4_image_42 rfl rfl ?_
      refine x_gI HE dX4_image_43 fd_X4_22 q1859 (Or.inl rfl) (Lay_X4.tag (f0.ext (EB.tr E1))) rfl ?_
      obtain ⟨v46, hw⟩ := hw
      refine x_imul HE dX4_image_46 v46 ?_
      refine x_bipush HE dX4_image_47 (by decide) ?_
      refine x_callS HE dX4_image_49 rfl (fun l => k_X4_copy  l hw) (As := [rV (x0 + 5), iV 0, rV (x0 + 8), iV (108 * (hF m1 x0 22)), iV 108]) (rest := []) rfl (lw_S q2113 q2114 q129 q2115) hy_X4_copy.2 rfl rfl (Nat.le_of_ble_eq_true rfl) (Nat.le_of_ble_eq_true rfl) (Nat.le_of_ble_eq_true rfl) (kkV (fun m49 E49 hw => ?_))
      have hw := hw E49
      refine x_aload_n HE 0 dX4_image_52 rfl rfl ?_
      refine x_dup HE dX4_image_53 (fun o => o) ?_
      refine x_gI HE dX4_image_54 fd_X4_22 q1859 (Or.inl rfl) (Lay_X4.tag (f0.ext (EB.tr (E1.tr E49)))) rfl ?_
      refine x_iconst HE dX4_image_57 (by decide) ?_
      obtain ⟨v58, hw⟩ := hw
      refine x_iadd HE dX4_image_58 v58 ?_
      refine x_pI HE dX4_image_59 fd_X4_22 q1859 (Or.inl rfl) (Or.inl rfl) (nf_int _) (Lay_X4.tag (f0.ext (EB.tr (E1.tr E49)))) (nro (by decide)) (Or.inl nf_X4_22) (fun m59 em59 E59 => ?_)
      have hw := hw m59 em59
      refine x_aload_n HE 0 dX4_image_62 rfl rfl ?_
      refine x_gI HE dX4_image_63 fd_X4_22 q1859 (Or.inl rfl) (Lay_X4.tag (f0.ext (EB.tr (E1.tr (E49.tr E59))))) rfl ?_
      refine x_iconst HE dX4_image_66 (by decide) ?_
      obtain ⟨v67, hw⟩ := hw
      refine x_isub HE dX4_image_67 v67 ?_
      exact x_iret HE hr dX4_image_68 hw
    · have hw := hw.2 c22
      refine x_aload_n HE 0 dX4_image_25 rfl rfl ?_
      refine x_iconst HE dX4_image_26 (by decide) ?_
      refine x_callV HE dX4_image_27 rfl (fun l => k_X4_no (f0.ext (EB.tr E1)) l hw) (As := [iV 3]) (rest := []) rfl xc10 (Lay_X4.tag (f0.ext (EB.tr E1))) (lw_V q1962 q1964 qs56 q129 q1965) hy_X4_no rfl rfl (Nat.le_of_ble_eq_true rfl) (Nat.le_of_ble_eq_true rfl) (Nat.le_of_ble_eq_true rfl) (kkI (fun r27 m27 E27 hw => ?_))
      have hw := hw E27
      exact x_iret HE hr dX4_image_30 hw
  · have hw := hw.2 c8
    refine x_aload_n HE 0 dX4_image_11 rfl rfl ?_
    refine x_iconst HE dX4_image_12 (by decide) ?_
    refine x_callV HE dX4_image_13 rfl (fun l => k_X4_no (f0.ext (EB.tr E1)) l hw) (As := [iV 1]) (rest := []) rfl xc10 (Lay_X4.tag (f0.ext (EB.tr E1))) (lw_V q1962 q1964 qs56 q129 q1965) hy_X4_no rfl rfl (Nat.le_of_ble_eq_true rfl) (Nat.le_of_ble_eq_true rfl) (Nat.le_of_ble_eq_true rfl) (kkI (fun r13 m13 E13 hw => ?_))
    have hw := hw E13
    exact x_iret HE hr dX4_image_16 hw
theorem k_X4_image {G : GT} {x0 : Int} {Q : Int → Hp → Prop} {h : Hp} (f0 : Lay_X4 h x0) (l : Launch) (hw : g_X4_image x0 Q h) : XM G l yX4_image cX4_image 1 (some .int) 1 25 [rV x0] (QI Q) h :=
  XM.of (by decide) (Nat.le_of_ble_eq_true rfl) (fun X HE hr hn => w_X4_image_0 HE hr f0 hw)
def g_X4_back (x0 x1 : Int) (Q : Int → Hp → Prop) (h : Hp) : Prop :=
  g_X4_good x0 (fun m1 => Ext h m1 → ((i32 ((hF m1 x0 22) - 1)) ∧ (g_X4_within x1 0 ((hF m1 x0 22) - 1) (fun r12 m12 => Ext m1 m12 → (((r12 ≠ 0) → ((i32 (108 * x1)) ∧ (g_X4_copy (x0 + 8) (108 * x1) (x0 + 5) 0 108 (fun m39 => Ext m12 m39 → (∀ m44 : Hp, m44 = setF m39 x0 21 0 → (Q 1 m44))) m12))) ∧ ((r12 = 0) → (g_X4_isNot x0 1 (fun r20 m20 => Ext m12 m20 → ((r20 = 0 ∨ r20 = 1) ∧ Q r20 m20)) m12)))) m1))) h
theorem w_X4_back_0 {G : GT} {X : ET} {h0 : Hp} {x0 x1 : Int} (HE : XE G X cX4_back 2 RX4 1 25 h0) (hr : XR X (some .boolean)) (f0 : Lay_X4 h0 x0) {Q : Int → Hp → Prop} {h : Hp} (hw : g_X4_back x0 x1 Q h) : Wx G X h0 (QI Q) h 0 [some (rV x0), some (iV x1)] [] := by
  refine Wx.start (fun EB => ?_)
  unfold g_X4_back at hw
  refine x_aload_n HE 0 dX4_back_0 rfl rfl ?_
  refine x_callV HE dX4_back_1 rfl (fun l => k_X4_good (f0.ext EB) l hw) (As := []) (rest := []) rfl xc10 (Lay_X4.tag (f0.ext EB)) (lw_V q1955 q1957 qs55 q129 q1958) hy_X4_good rfl rfl (Nat.le_of_ble_eq_true rfl) (Nat.le_of_ble_eq_true rfl) (Nat.le_of_ble_eq_true rfl) (kkV (fun m1 E1 hw => ?_))
  have hw := hw E1
  refine x_iload_n HE 1 dX4_back_4 rfl rfl ?_
  refine x_iconst HE dX4_back_5 (by decide) ?_
  refine x_aload_n HE 0 dX4_back_6 rfl rfl ?_
  refine x_gI HE dX4_back_7 fd_X4_22 q1859 (Or.inl rfl) (Lay_X4.tag (f0.ext (EB.tr E1))) rfl ?_
  refine x_iconst HE dX4_back_10 (by decide) ?_
  obtain ⟨v11, hw⟩ := hw
  refine x_isub HE dX4_back_11 v11 ?_
  refine x_callS HE dX4_back_12 rfl (fun l => k_X4_within  l hw) (As := [iV x1, iV 0, iV ((hF m1 x0 22) - 1)]) (rest := []) rfl (lw_S q1959 q1960 q129 q1961) hy_X4_within.2 rfl rfl (Nat.le_of_ble_eq_true rfl) (Nat.le_of_ble_eq_true rfl) (Nat.le_of_ble_eq_true rfl) (kkI (fun r12 m12 E12 hw => ?_))
  have hw := hw E12
  refine x_if_ne HE 24 dX4_back_15 (by decide) (fun c15 => ?_) (fun c15 => ?_)
  · have hw := hw.1 c15
    refine x_aload_n HE 0 dX4_back_24 rfl rfl ?_
    refine x_gR HE dX4_back_25 fd_X4_20 q1857 (Or.inl rfl) (Lay_X4.tag (f0.ext (EB.tr (E1.tr E12)))) (Lay_X4_20 (f0.ext (EB.tr (E1.tr E12)))).1 ?_
    refine x_bipush HE dX4_back_28 (by decide) ?_
    refine x_iload_n HE 1 dX4_back_30 rfl rfl ?_
    obtain ⟨v31, hw⟩ := hw
    refine x_imul HE dX4_back_31 v31 ?_
    refine x_aload_n HE 0 dX4_back_32 rfl rfl ?_
    refine x_gR HE dX4_back_33 fd_X4_17 q1854 (Or.inl rfl) (Lay_X4.tag (f0.ext (EB.tr (E1.tr E12)))) (Lay_X4_17 (f0.ext (EB.tr (E1.tr E12)))).1 ?_
    refine x_iconst HE dX4_back_36 (by decide) ?_
    refine x_bipush HE dX4_back_37 (by decide) ?_
    refine x_callS HE dX4_back_39 rfl (fun l => k_X4_copy  l hw) (As := [rV (x0 + 8), iV (108 * x1), rV (x0 + 5), iV 0, iV 108]) (rest := []) rfl (lw_S q2113 q2114 q129 q2115) hy_X4_copy.2 rfl rfl (Nat.le_of_ble_eq_true rfl) (Nat.le_of_ble_eq_true rfl) (Nat.le_of_ble_eq_true rfl) (kkV (fun m39 E39 hw => ?_))
    have hw := hw E39
    refine x_aload_n HE 0 dX4_back_42 rfl rfl ?_
    refine x_iconst HE dX4_back_43 (by decide) ?_
    refine x_pI HE dX4_back_44 fd_X4_21 q1858 (Or.inl rfl) (Or.inl rfl) (nf_int _) (Lay_X4.tag (f0.ext (EB.tr (E1.tr (E12.tr E39))))) (nro (by decide)) (Or.inl nf_X4_21) (fun m44 em44 E44 => ?_)
    have hw := hw m44 em44
    refine x_iconst HE dX4_back_47 (by decide) ?_
    exact x_zret HE hr dX4_back_48 (by decide) hw
  · have hw := hw.2 c15
    refine x_aload_n HE 0 dX4_back_18 rfl rfl ?_
    refine x_iconst HE dX4_back_19 (by decide) ?_
    refine x_callV HE dX4_back_20 rfl (fun l => k_X4_isNot (f0.ext (EB.tr (E1.tr E12))) l hw) (As := [iV 1]) (rest := []) rfl xc10 (Lay_X4.tag (f0.ext (EB.tr (E1.tr E12)))) (lw_V q2448 q2450 qs120 q129 q2451) hy_X4_isNot rfl rfl (Nat.le_of_ble_eq_true rfl) (Nat.le_of_ble_eq_true rfl) (Nat.le_of_ble_eq_true rfl) (kkI (fun r20 m20 E20 hw => ?_))
    have hw := hw E20
    exact x_zret HE hr dX4_back_23 hw.1 hw.2
theorem k_X4_back {G : GT} {x0 x1 : Int} {Q : Int → Hp → Prop} {h : Hp} (f0 : Lay_X4 h x0) (l : Launch) (hw : g_X4_back x0 x1 Q h) : XM G l yX4_back cX4_back 2 (some .boolean) 1 25 [rV x0, iV x1] (QI Q) h :=
  XM.of (by decide) (Nat.le_of_ble_eq_true rfl) (fun X HE hr hn => w_X4_back_0 HE hr f0 hw)
def g_X4_told_b65 (x0 x1 x2 : Int) (Q : Int → Hp → Prop) (s0 : Int) (h : Hp) : Prop :=
  Q s0 h
theorem w_X4_told_65 {G : GT} {X : ET} {h0 : Hp} {x0 x1 x2 : Int} (HE : XE G X cX4_told 4 RX4 2 43 h0) (hr : XR X (some .int)) (f0 : Lay_X4 h0 x0) {Q : Int → Hp → Prop} {s0 : Int} {h : Hp} (hw : g_X4_told_b65 x0 x1 x2 Q s0 h) : Wx G X h0 (QI Q) h 65 [some (rV x0), some (iV x1), some (iV x2), none] [iV s0] := by
  refine Wx.start (fun EB => ?_)
  unfold g_X4_told_b65 at hw
  exact x_iret HE hr dX4_told_65 hw
def g_X4_told_b22 (x0 x1 x2 : Int) (Q : Int → Hp → Prop) (h : Hp) : Prop :=
  g_X4_no x0 1 (fun r24 m24 => Ext h m24 → (Q r24 m24)) h
theorem w_X4_told_22 {G : GT} {X : ET} {h0 : Hp} {x0 x1 x2 : Int} (HE : XE G X cX4_told 4 RX4 2 43 h0) (hr : XR X (some .int)) (f0 : Lay_X4 h0 x0) {Q : Int → Hp → Prop} {h : Hp} (hw : g_X4_told_b22 x0 x1 x2 Q  h) : Wx G X h0 (QI Q) h 22 [some (rV x0), some (iV x1), some (iV x2), none] [] := by
  refine Wx.start (fun EB => ?_)
  unfold g_X4_told_b22 at hw
  refine x_aload_n HE 0 dX4_told_22 rfl rfl ?_
  refine x_iconst HE dX4_told_23 (by decide) ?_
  refine x_callV HE dX4_told_24 rfl (fun l => k_X4_no (f0.ext EB) l hw) (As := [iV 1]) (rest := []) rfl xc10 (Lay_X4.tag (f0.ext EB)) (lw_V q1962 q1964 qs56 q129 q1965) hy_X4_no rfl rfl (Nat.le_of_ble_eq_true rfl) (Nat.le_of_ble_eq_true rfl) (Nat.le_of_ble_eq_true rfl) (kkI (fun r24 m24 E24 hw => ?_))
  have hw := hw E24
  exact x_iret HE hr dX4_told_27 hw
def g_X4_told (x0 x1 x2 : Int) (Q : Int → Hp → Prop) (h : Hp) : Prop :=
  g_X4_good x0 (fun m1 => Ext h m1 → (g_X4_isPerson x0 x1 (fun r6 m6 => Ext m1 m6 → (((r6 = 0) → (g_X4_told_b22 x0 x1 x2 Q m6)) ∧ ((r6 ≠ 0) → (g_X4_within x2 0 6 (fun r16 m16 => Ext m6 m16 → (((r16 ≠ 0) → ((i32 (7 * x1)) ∧ ((i32 (41 + (7 * x1))) ∧ ((i32 ((41 + (7 * x1)) + x2)) ∧ (((0 : Int) ≤ ((41 + (7 * x1)) + x2) ∧ ((41 + (7 * x1)) + x2) < 347) ∧ (∀ y42 : Int, y42 = (hA m16 (x0 + 3) ((41 + (7 * x1)) + x2)) → (((6 ≤ x2) → (((y42 ≠ 0) → ((i32 (y42 - 1)) ∧ (g_X4_told_b65 x0 x1 x2 Q (y42 - 1) m16))) ∧ ((y42 = 0) → (g_X4_told_b65 x0 x1 x2 Q (-2) m16)))) ∧ ((x2 < 6) → (g_X4_told_b65 x0 x1 x2 Q y42 m16))))))))) ∧ ((r16 = 0) → (g_X4_told_b22 x0 x1 x2 Q m16)))) m6)))) m1)) h
theorem w_X4_told_0 {G : GT} {X : ET} {h0 : Hp} {x0 x1 x2 : Int} (HE : XE G X cX4_told 4 RX4 2 43 h0) (hr : XR X (some .int)) (f0 : Lay_X4 h0 x0) {Q : Int → Hp → Prop} {h : Hp} (hw : g_X4_told x0 x1 x2 Q h) : Wx G X h0 (QI Q) h 0 [some (rV x0), some (iV x1), some (iV x2), none] [] := by
  refine Wx.start (fun EB => ?_)
  unfold g_X4_told at hw
  refine x_aload_n HE 0 dX4_told_0 rfl rfl ?_
  refine x_callV HE dX4_told_1 rfl (fun l => k_X4_good (f0.ext EB) l hw) (As := []) (rest := []) rfl xc10 (Lay_X4.tag (f0.ext EB)) (lw_V q1955 q1957 qs55 q129 q1958) hy_X4_good rfl rfl (Nat.le_of_ble_eq_true rfl) (Nat.le_of_ble_eq_true rfl) (Nat.le_of_ble_eq_true rfl) (kkV (fun m1 E1 hw => ?_))
  have hw := hw E1
  refine x_aload_n HE 0 dX4_told_4 rfl rfl ?_
  refine x_iload_n HE 1 dX4_told_5 rfl rfl ?_
  refine x_callV HE dX4_told_6 rfl (fun l => k_X4_isPerson (f0.ext (EB.tr E1)) l hw) (As := [iV x1]) (rest := []) rfl xc10 (Lay_X4.tag (f0.ext (EB.tr E1))) (lw_V q2144 q2146 qs84 q129 q2147) hy_X4_isPerson rfl rfl (Nat.le_of_ble_eq_true rfl) (Nat.le_of_ble_eq_true rfl) (Nat.le_of_ble_eq_true rfl) (kkI (fun r6 m6 E6 hw => ?_))
  have hw := hw E6
  refine x_if_eq HE 22 dX4_told_9 (by decide) (fun c9 => ?_) (fun c9 => ?_)
  · have hw := hw.1 c9
    exact w_X4_told_22 HE hr f0 hw
  · have hw := hw.2 c9
    refine x_iload_n HE 2 dX4_told_12 rfl rfl ?_
    refine x_iconst HE dX4_told_13 (by decide) ?_
    refine x_bipush HE dX4_told_14 (by decide) ?_
    refine x_callS HE dX4_told_16 rfl (fun l => k_X4_within  l hw) (As := [iV x2, iV 0, iV 6]) (rest := []) rfl (lw_S q1959 q1960 q129 q1961) hy_X4_within.2 rfl rfl (Nat.le_of_ble_eq_true rfl) (Nat.le_of_ble_eq_true rfl) (Nat.le_of_ble_eq_true rfl) (kkI (fun r16 m16 E16 hw => ?_))
    have hw := hw E16
    refine x_if_ne HE 28 dX4_told_19 (by decide) (fun c19 => ?_) (fun c19 => ?_)
    · have hw := hw.1 c19
      refine x_aload_n HE 0 dX4_told_28 rfl rfl ?_
      refine x_gR HE dX4_told_29 fd_X4_15 q1852 (Or.inl rfl) (Lay_X4.tag (f0.ext (EB.tr (E1.tr (E6.tr E16))))) (Lay_X4_15 (f0.ext (EB.tr (E1.tr (E6.tr E16))))).1 ?_
      refine x_bipush HE dX4_told_32 (by decide) ?_
      refine x_bipush HE dX4_told_34 (by decide) ?_
      refine x_iload_n HE 1 dX4_told_36 rfl rfl ?_
      obtain ⟨v37, hw⟩ := hw
      refine x_imul HE dX4_told_37 v37 ?_
      obtain ⟨v38, hw⟩ := hw
      refine x_iadd HE dX4_told_38 v38 ?_
      refine x_iload_n HE 2 dX4_told_39 rfl rfl ?_
      obtain ⟨v40, hw⟩ := hw
      refine x_iadd HE dX4_told_40 v40 ?_
      obtain ⟨i41, hw⟩ := hw
      refine x_iald HE dX4_told_41 (t := 1) (by decide) ((Lay_X4_15 (f0.ext (EB.tr (E1.tr (E6.tr E16))))).2.1) (ix_of ((Lay_X4_15 (f0.ext (EB.tr (E1.tr (E6.tr E16))))).2.2) i41) rfl ?_
      refine x_istore_nN HE 3 (fun y42 => [some (rV x0), some (iV x1), some (iV x2), some (iV y42)]) dX4_told_42 rfl (Nat.le_of_ble_eq_true rfl) (fun _ => rfl) (fun y42 ey42 => ?_)
      have hw := hw y42 ey42
      refine x_iload_n HE 2 dX4_told_43 rfl rfl ?_
      refine x_bipush HE dX4_told_44 (by decide) ?_
      refine x_ic_ge HE 53 dX4_told_46 (by decide) (fun c46 => ?_) (fun c46 => ?_)
      · have hw := hw.1 c46
        refine x_iload_n HE 3 dX4_told_53 rfl rfl ?_
        refine x_if_ne HE 62 dX4_told_54 (by decide) (fun c54 => ?_) (fun c54 => ?_)
        · have hw := hw.1 c54
          refine x_iload_n HE 3 dX4_told_62 rfl rfl ?_
          refine x_iconst HE dX4_told_63 (by decide) ?_
          obtain ⟨v64, hw⟩ := hw
          refine x_isub HE dX4_told_64 v64 ?_
          refine Wx.mask [true, true, true, false] (lo2 := [some (rV x0), some (iV x1), some (iV x2), none]) rfl ?_
          exact w_X4_told_65 HE hr f0 hw
        · have hw := hw.2 c54
          refine x_bipush HE dX4_told_57 (by decide) ?_
          refine x_goto HE 65 dX4_told_59 (by decide) ?_
          refine Wx.mask [true, true, true, false] (lo2 := [some (rV x0), some (iV x1), some (iV x2), none]) rfl ?_
          exact w_X4_told_65 HE hr f0 hw
      · have hw := hw.2 c46
        refine x_iload_n HE 3 dX4_told_49 rfl rfl ?_
        refine x_goto HE 65 dX4_told_50 (by decide) ?_
        refine Wx.mask [true, true, true, false] (lo2 := [some (rV x0), some (iV x1), some (iV x2), none]) rfl ?_
        exact w_X4_told_65 HE hr f0 hw
    · have hw := hw.2 c19
      exact w_X4_told_22 HE hr f0 hw
theorem k_X4_told {G : GT} {x0 x1 x2 : Int} {Q : Int → Hp → Prop} {h : Hp} (f0 : Lay_X4 h x0) (l : Launch) (hw : g_X4_told x0 x1 x2 Q h) : XM G l yX4_told cX4_told 4 (some .int) 2 43 [rV x0, iV x1, iV x2] (QI Q) h :=
  XM.of (by decide) (Nat.le_of_ble_eq_true rfl) (fun X HE hr hn => w_X4_told_0 HE hr f0 hw)
def g_X4_isDrink_b28 (x0 x1 : Int) (Q : Int → Hp → Prop) (s0 : Int) (h : Hp) : Prop :=
  (s0 = 0 ∨ s0 = 1) ∧ Q s0 h
theorem w_X4_isDrink_28 {G : GT} {X : ET} {h0 : Hp} {x0 x1 : Int} (HE : XE G X cX4_isDrink 2 RX4 1 22 h0) (hr : XR X (some .boolean)) (f0 : Lay_X4 h0 x0) {Q : Int → Hp → Prop} {s0 : Int} {h : Hp} (hw : g_X4_isDrink_b28 x0 x1 Q s0 h) : Wx G X h0 (QI Q) h 28 [some (rV x0), some (iV x1)] [iV s0] := by
  refine Wx.start (fun EB => ?_)
  unfold g_X4_isDrink_b28 at hw
  exact x_zret HE hr dX4_isDrink_28 hw.1 hw.2
def g_X4_isDrink_b27 (x0 x1 : Int) (Q : Int → Hp → Prop) (h : Hp) : Prop :=
  g_X4_isDrink_b28 x0 x1 Q 0 h
theorem w_X4_isDrink_27 {G : GT} {X : ET} {h0 : Hp} {x0 x1 : Int} (HE : XE G X cX4_isDrink 2 RX4 1 22 h0) (hr : XR X (some .boolean)) (f0 : Lay_X4 h0 x0) {Q : Int → Hp → Prop} {h : Hp} (hw : g_X4_isDrink_b27 x0 x1 Q  h) : Wx G X h0 (QI Q) h 27 [some (rV x0), some (iV x1)] [] := by
  refine Wx.start (fun EB => ?_)
  unfold g_X4_isDrink_b27 at hw
  refine x_iconst HE dX4_isDrink_27 (by decide) ?_
  exact w_X4_isDrink_28 HE hr f0 hw
def g_X4_isDrink (x0 x1 : Int) (Q : Int → Hp → Prop) (h : Hp) : Prop :=
  (((hF h x0 14) = 0) → (g_X4_isDrink_b27 x0 x1 Q h)) ∧ (((hF h x0 14) ≠ 0) → ((i32 ((hA h (x0 + 3) 3) - 1)) ∧ (g_X4_within x1 0 ((hA h (x0 + 3) 3) - 1) (fun r17 m17 => Ext h m17 → (((r17 = 0) → (g_X4_isDrink_b27 x0 x1 Q m17)) ∧ ((r17 ≠ 0) → (g_X4_isDrink_b28 x0 x1 Q 1 m17)))) h)))
theorem w_X4_isDrink_0 {G : GT} {X : ET} {h0 : Hp} {x0 x1 : Int} (HE : XE G X cX4_isDrink 2 RX4 1 22 h0) (hr : XR X (some .boolean)) (f0 : Lay_X4 h0 x0) {Q : Int → Hp → Prop} {h : Hp} (hw : g_X4_isDrink x0 x1 Q h) : Wx G X h0 (QI Q) h 0 [some (rV x0), some (iV x1)] [] := by
  refine Wx.start (fun EB => ?_)
  unfold g_X4_isDrink at hw
  refine x_aload_n HE 0 dX4_isDrink_0 rfl rfl ?_
  refine x_gI HE dX4_isDrink_1 fd_X4_14 q1851 (Or.inl rfl) (Lay_X4.tag (f0.ext EB)) rfl ?_
  refine x_if_eq HE 27 dX4_isDrink_4 (by decide) (fun c4 => ?_) (fun c4 => ?_)
  · have hw := hw.1 c4
    exact w_X4_isDrink_27 HE hr f0 hw
  · have hw := hw.2 c4
    refine x_iload_n HE 1 dX4_isDrink_7 rfl rfl ?_
    refine x_iconst HE dX4_isDrink_8 (by decide) ?_
    refine x_aload_n HE 0 dX4_isDrink_9 rfl rfl ?_
    refine x_gR HE dX4_isDrink_10 fd_X4_15 q1852 (Or.inl rfl) (Lay_X4.tag (f0.ext EB)) (Lay_X4_15 (f0.ext EB)).1 ?_
    refine x_iconst HE dX4_isDrink_13 (by decide) ?_
    refine x_iald HE dX4_isDrink_14 (t := 1) (by decide) ((Lay_X4_15 (f0.ext EB)).2.1) (ix_of ((Lay_X4_15 (f0.ext EB)).2.2) (by decide)) rfl ?_
    refine x_iconst HE dX4_isDrink_15 (by decide) ?_
    obtain ⟨v16, hw⟩ := hw
    refine x_isub HE dX4_isDrink_16 v16 ?_
    refine x_callS HE dX4_isDrink_17 rfl (fun l => k_X4_within  l hw) (As := [iV x1, iV 0, iV ((hA h (x0 + 3) 3) - 1)]) (rest := []) rfl (lw_S q1959 q1960 q129 q1961) hy_X4_within.2 rfl rfl (Nat.le_of_ble_eq_true rfl) (Nat.le_of_ble_eq_true rfl) (Nat.le_of_ble_eq_true rfl) (kkI (fun r17 m17 E17 hw => ?_))
    have hw := hw E17
    refine x_if_eq HE 27 dX4_isDrink_20 (by decide) (fun c20 => ?_) (fun c20 => ?_)
    · have hw := hw.1 c20
      exact w_X4_isDrink_27 HE hr f0 hw
    · have hw := hw.2 c20
      refine x_iconst HE dX4_isDrink_23 (by decide) ?_
      refine x_goto HE 28 dX4_isDrink_24 (by decide) ?_
      exact w_X4_isDrink_28 HE hr f0 hw
theorem k_X4_isDrink {G : GT} {x0 x1 : Int} {Q : Int → Hp → Prop} {h : Hp} (f0 : Lay_X4 h x0) (l : Launch) (hw : g_X4_isDrink x0 x1 Q h) : XM G l yX4_isDrink cX4_isDrink 2 (some .boolean) 1 22 [rV x0, iV x1] (QI Q) h :=
  XM.of (by decide) (Nat.le_of_ble_eq_true rfl) (fun X HE hr hn => w_X4_isDrink_0 HE hr f0 hw)
def g_X4_wants_b34 (x0 x1 x2 : Int) (Q : Int → Hp → Prop) (s0 : Int) (h : Hp) : Prop :=
  Q s0 h
theorem w_X4_wants_34 {G : GT} {X : ET} {h0 : Hp} {x0 x1 x2 : Int} (HE : XE G X cX4_wants 3 RX4 2 43 h0) (hr : XR X (some .int)) (f0 : Lay_X4 h0 x0) {Q : Int → Hp → Prop} {s0 : Int} {h : Hp} (hw : g_X4_wants_b34 x0 x1 x2 Q s0 h) : Wx G X h0 (QI Q) h 34 [some (rV x0), some (iV x1), some (iV x2)] [iV s0] := by
  refine Wx.start (fun EB => ?_)
  unfold g_X4_wants_b34 at hw
  exact x_iret HE hr dX4_wants_34 hw
def g_X4_wants_b29 (x0 x1 x2 : Int) (Q : Int → Hp → Prop) (h : Hp) : Prop :=
  g_X4_no x0 1 (fun r31 m31 => Ext h m31 → (g_X4_wants_b34 x0 x1 x2 Q r31 m31)) h
theorem w_X4_wants_29 {G : GT} {X : ET} {h0 : Hp} {x0 x1 x2 : Int} (HE : XE G X cX4_wants 3 RX4 2 43 h0) (hr : XR X (some .int)) (f0 : Lay_X4 h0 x0) {Q : Int → Hp → Prop} {h : Hp} (hw : g_X4_wants_b29 x0 x1 x2 Q  h) : Wx G X h0 (QI Q) h 29 [some (rV x0), some (iV x1), some (iV x2)] [] := by
  refine Wx.start (fun EB => ?_)
  unfold g_X4_wants_b29 at hw
  refine x_aload_n HE 0 dX4_wants_29 rfl rfl ?_
  refine x_iconst HE dX4_wants_30 (by decide) ?_
  refine x_callV HE dX4_wants_31 rfl (fun l => k_X4_no (f0.ext EB) l hw) (As := [iV 1]) (rest := []) rfl xc10 (Lay_X4.tag (f0.ext EB)) (lw_V q1962 q1964 qs56 q129 q1965) hy_X4_no rfl rfl (Nat.le_of_ble_eq_true rfl) (Nat.le_of_ble_eq_true rfl) (Nat.le_of_ble_eq_true rfl) (kkI (fun r31 m31 E31 hw => ?_))
  have hw := hw E31
  exact w_X4_wants_34 HE hr f0 hw
def g_X4_wants (x0 x1 x2 : Int) (Q : Int → Hp → Prop) (h : Hp) : Prop :=
  g_X4_good x0 (fun m1 => Ext h m1 → (g_X4_isPerson x0 x1 (fun r6 m6 => Ext m1 m6 → (((r6 = 0) → (g_X4_wants_b29 x0 x1 x2 Q m6)) ∧ ((r6 ≠ 0) → (g_X4_isDrink x0 x2 (fun r14 m14 => Ext m6 m14 → (((r14 = 0) → (g_X4_wants_b29 x0 x1 x2 Q m14)) ∧ ((r14 ≠ 0) → (g_X4_wantsOf x0 x1 x2 (fun r23 m23 => Ext m14 m23 → (g_X4_wants_b34 x0 x1 x2 Q r23 m23)) m14)))) m6)))) m1)) h
theorem w_X4_wants_0 {G : GT} {X : ET} {h0 : Hp} {x0 x1 x2 : Int} (HE : XE G X cX4_wants 3 RX4 2 43 h0) (hr : XR X (some .int)) (f0 : Lay_X4 h0 x0) {Q : Int → Hp → Prop} {h : Hp} (hw : g_X4_wants x0 x1 x2 Q h) : Wx G X h0 (QI Q) h 0 [some (rV x0), some (iV x1), some (iV x2)] [] := by
  refine Wx.start (fun EB => ?_)
  unfold g_X4_wants at hw
  refine x_aload_n HE 0 dX4_wants_0 rfl rfl ?_
  refine x_callV HE dX4_wants_1 rfl (fun l => k_X4_good (f0.ext EB) l hw) (As := []) (rest := []) rfl xc10 (Lay_X4.tag (f0.ext EB)) (lw_V q1955 q1957 qs55 q129 q1958) hy_X4_good rfl rfl (Nat.le_of_ble_eq_true rfl) (Nat.le_of_ble_eq_true rfl) (Nat.le_of_ble_eq_true rfl) (kkV (fun m1 E1 hw => ?_))
  have hw := hw E1
  refine x_aload_n HE 0 dX4_wants_4 rfl rfl ?_
  refine x_iload_n HE 1 dX4_wants_5 rfl rfl ?_
  refine x_callV HE dX4_wants_6 rfl (fun l => k_X4_isPerson (f0.ext (EB.tr E1)) l hw) (As := [iV x1]) (rest := []) rfl xc10 (Lay_X4.tag (f0.ext (EB.tr E1))) (lw_V q2144 q2146 qs84 q129 q2147) hy_X4_isPerson rfl rfl (Nat.le_of_ble_eq_true rfl) (Nat.le_of_ble_eq_true rfl) (Nat.le_of_ble_eq_true rfl) (kkI (fun r6 m6 E6 hw => ?_))
  have hw := hw E6
  refine x_if_eq HE 29 dX4_wants_9 (by decide) (fun c9 => ?_) (fun c9 => ?_)
  · have hw := hw.1 c9
    exact w_X4_wants_29 HE hr f0 hw
  · have hw := hw.2 c9
    refine x_aload_n HE 0 dX4_wants_12 rfl rfl ?_
    refine x_iload_n HE 2 dX4_wants_13 rfl rfl ?_
    refine x_callV HE dX4_wants_14 rfl (fun l => k_X4_isDrink (f0.ext (EB.tr (E1.tr E6))) l hw) (As := [iV x2]) (rest := []) rfl xc10 (Lay_X4.tag (f0.ext (EB.tr (E1.tr E6)))) (lw_V q2484 q2486 qs121 q129 q2487) hy_X4_isDrink rfl rfl (Nat.le_of_ble_eq_true rfl) (Nat.le_of_ble_eq_true rfl) (Nat.le_of_ble_eq_true rfl) (kkI (fun r14 m14 E14 hw => ?_))
    have hw := hw E14
    refine x_if_eq HE 29 dX4_wants_17 (by decide) (fun c17 => ?_) (fun c17 => ?_)
    · have hw := hw.1 c17
      exact w_X4_wants_29 HE hr f0 hw
    · have hw := hw.2 c17
      refine x_aload_n HE 0 dX4_wants_20 rfl rfl ?_
      refine x_iload_n HE 1 dX4_wants_21 rfl rfl ?_
      refine x_iload_n HE 2 dX4_wants_22 rfl rfl ?_
      refine x_callV HE dX4_wants_23 rfl (fun l => k_X4_wantsOf (f0.ext (EB.tr (E1.tr (E6.tr E14)))) l hw) (As := [iV x1, iV x2]) (rest := []) rfl xc10 (Lay_X4.tag (f0.ext (EB.tr (E1.tr (E6.tr E14))))) (lw_V q2206 q2208 qs92 q129 q2209) hy_X4_wantsOf rfl rfl (Nat.le_of_ble_eq_true rfl) (Nat.le_of_ble_eq_true rfl) (Nat.le_of_ble_eq_true rfl) (kkI (fun r23 m23 E23 hw => ?_))
      have hw := hw E23
      refine x_goto HE 34 dX4_wants_26 (by decide) ?_
      exact w_X4_wants_34 HE hr f0 hw
theorem k_X4_wants {G : GT} {x0 x1 x2 : Int} {Q : Int → Hp → Prop} {h : Hp} (f0 : Lay_X4 h x0) (l : Launch) (hw : g_X4_wants x0 x1 x2 Q h) : XM G l yX4_wants cX4_wants 3 (some .int) 2 43 [rV x0, iV x1, iV x2] (QI Q) h :=
  XM.of (by decide) (Nat.le_of_ble_eq_true rfl) (fun X HE hr hn => w_X4_wants_0 HE hr f0 hw)
def g_X4_led_b56 (x0 x1 : Int) (Q : Int → Hp → Prop) (h : Hp) : Prop :=
  ∀ m58 : Hp, m58 = setF h x0 0 1 → (Q 0 m58)
theorem w_X4_led_56 {G : GT} {X : ET} {h0 : Hp} {x0 x1 : Int} (HE : XE G X cX4_led 4 RX4 2 43 h0) (hr : XR X (some .int)) (f0 : Lay_X4 h0 x0) {Q : Int → Hp → Prop} {h : Hp} (hw : g_X4_led_b56 x0 x1 Q  h) : Wx G X h0 (QI Q) h 56 [some (rV x0), some (iV x1), none, none] [] := by
  refine Wx.start (fun EB => ?_)
  unfold g_X4_led_b56 at hw
  refine x_aload_n HE 0 dX4_led_56 rfl rfl ?_
  refine x_iconst HE dX4_led_57 (by decide) ?_
  refine x_pI HE dX4_led_58 fd_X4_0 q1837 (Or.inl rfl) (Or.inl rfl) (nf_int _) (Lay_X4.tag (f0.ext EB)) (nro (by decide)) (Or.inl nf_X4_0) (fun m58 em58 E58 => ?_)
  have hw := hw m58 em58
  refine x_iconst HE dX4_led_61 (by decide) ?_
  exact x_iret HE hr dX4_led_62 hw
def g_X4_led_b50 (x0 x1 : Int) (Q : Int → Hp → Prop) (K4 : Int → Int → Hp → Prop) (l2 l3 : Int) (h : Hp) : Prop :=
  (i32 (l3 + 1)) ∧ (∀ y50 : Int, y50 = l3 + 1 → (K4 l2 y50 h))
theorem w_X4_led_50 {G : GT} {X : ET} {h0 : Hp} {x0 x1 : Int} (HE : XE G X cX4_led 4 RX4 2 43 h0) (hr : XR X (some .int)) (f0 : Lay_X4 h0 x0) {Q : Int → Hp → Prop} {K4 : Int → Int → Hp → Prop} (hK4 : ∀ (l2 l3 : Int) (h : Hp), K4 l2 l3 h → Wx G X h0 (QI Q) h 4 [some (rV x0), some (iV x1), some (iV l2), some (iV l3)] []) {l2 l3 : Int} {h : Hp} (hw : g_X4_led_b50 x0 x1 Q K4 l2 l3 h) : Wx G X h0 (QI Q) h 50 [some (rV x0), some (iV x1), some (iV l2), some (iV l3)] [] := by
  refine Wx.start (fun EB => ?_)
  unfold g_X4_led_b50 at hw
  obtain ⟨v50, hw⟩ := hw
  refine x_iincN HE (fun y50 => [some (rV x0), some (iV x1), some (iV l2), some (iV y50)]) dX4_led_50 rfl v50 (Nat.le_of_ble_eq_true rfl) (fun _ => rfl) (fun y50 ey50 => ?_)
  have hw := hw y50 ey50
  refine x_goto HE 4 dX4_led_53 (by decide) ?_
  exact hK4 _ _ _ hw
def g_X4_led_b40 (x0 x1 : Int) (Q : Int → Hp → Prop) (l3 : Int) (h : Hp) : Prop :=
  ∀ m42 : Hp, m42 = setF h x0 0 0 → (Q l3 m42)
theorem w_X4_led_40 {G : GT} {X : ET} {h0 : Hp} {x0 x1 : Int} (HE : XE G X cX4_led 4 RX4 2 43 h0) (hr : XR X (some .int)) (f0 : Lay_X4 h0 x0) {Q : Int → Hp → Prop} {l3 : Int} {h : Hp} (hw : g_X4_led_b40 x0 x1 Q l3 h) : Wx G X h0 (QI Q) h 40 [some (rV x0), some (iV x1), none, some (iV l3)] [] := by
  refine Wx.start (fun EB => ?_)
  unfold g_X4_led_b40 at hw
  refine x_aload_n HE 0 dX4_led_40 rfl rfl ?_
  refine x_iconst HE dX4_led_41 (by decide) ?_
  refine x_pI HE dX4_led_42 fd_X4_0 q1837 (Or.inl rfl) (Or.inl rfl) (nf_int _) (Lay_X4.tag (f0.ext EB)) (nro (by decide)) (Or.inl nf_X4_0) (fun m42 em42 E42 => ?_)
  have hw := hw m42 em42
  refine x_iload_n HE 3 dX4_led_45 rfl rfl ?_
  exact x_iret HE hr dX4_led_46 hw
def g_X4_led_L4 (x0 x1 : Int) (Q : Int → Hp → Prop) (K4 : Int → Int → Hp → Prop) (l2 l3 : Int) (h : Hp) : Prop :=
  (((hF h x0 14) = 0) → (g_X4_led_b56 x0 x1 Q h)) ∧ (((hF h x0 14) ≠ 0) → ((((hA h (x0 + 3) 5) ≤ l3) → (g_X4_led_b56 x0 x1 Q h)) ∧ ((l3 < (hA h (x0 + 3) 5)) → (g_X4_isWaiting (x0 + 5) l3 (fun r26 m26 => Ext h m26 → (((r26 ≠ 0) → (((l2 ≠ x1) → ((i32 (l2 + 1)) ∧ (∀ y47 : Int, y47 = l2 + 1 → (g_X4_led_b50 x0 x1 Q K4 y47 l3 m26)))) ∧ ((l2 = x1) → (g_X4_led_b40 x0 x1 Q l3 m26)))) ∧ ((r26 = 0) → (g_X4_led_b50 x0 x1 Q K4 l2 l3 m26)))) h))))
theorem w_X4_led_4 {G : GT} {X : ET} {h0 : Hp} {x0 x1 : Int} (HE : XE G X cX4_led 4 RX4 2 43 h0) (hr : XR X (some .int)) (f0 : Lay_X4 h0 x0) {Q : Int → Hp → Prop} {K4 : Int → Int → Hp → Prop} (hK4 : ∀ (l2 l3 : Int) (h : Hp), K4 l2 l3 h → Wx G X h0 (QI Q) h 4 [some (rV x0), some (iV x1), some (iV l2), some (iV l3)] []) {l2 l3 : Int} {h : Hp} (hw : g_X4_led_L4 x0 x1 Q K4 l2 l3 h) : Wx G X h0 (QI Q) h 4 [some (rV x0), some (iV x1), some (iV l2), some (iV l3)] [] := by
  refine Wx.start (fun EB => ?_)
  unfold g_X4_led_L4 at hw
  refine x_aload_n HE 0 dX4_led_4 rfl rfl ?_
  refine x_gI HE dX4_led_5 fd_X4_14 q1851 (Or.inl rfl) (Lay_X4.tag (f0.ext EB)) rfl ?_
  refine x_if_eq HE 56 dX4_led_8 (by decide) (fun c8 => ?_) (fun c8 => ?_)
  · have hw := hw.1 c8
    refine Wx.mask [true, true, false, false] (lo2 := [some (rV x0), some (iV x1), none, none]) rfl ?_
    exact w_X4_led_56 HE hr f0 hw
  · have hw := hw.2 c8
    refine x_iload_n HE 3 dX4_led_11 rfl rfl ?_
    refine x_aload_n HE 0 dX4_led_12 rfl rfl ?_
    refine x_gR HE dX4_led_13 fd_X4_15 q1852 (Or.inl rfl) (Lay_X4.tag (f0.ext EB)) (Lay_X4_15 (f0.ext EB)).1 ?_
    refine x_iconst HE dX4_led_16 (by decide) ?_
    refine x_iald HE dX4_led_17 (t := 1) (by decide) ((Lay_X4_15 (f0.ext EB)).2.1) (ix_of ((Lay_X4_15 (f0.ext EB)).2.2) (by decide)) rfl ?_
    refine x_ic_ge HE 56 dX4_led_18 (by decide) (fun c18 => ?_) (fun c18 => ?_)
    · have hw := hw.1 c18
      refine Wx.mask [true, true, false, false] (lo2 := [some (rV x0), some (iV x1), none, none]) rfl ?_
      exact w_X4_led_56 HE hr f0 hw
    · have hw := hw.2 c18
      refine x_aload_n HE 0 dX4_led_21 rfl rfl ?_
      refine x_gR HE dX4_led_22 fd_X4_17 q1854 (Or.inl rfl) (Lay_X4.tag (f0.ext EB)) (Lay_X4_17 (f0.ext EB)).1 ?_
      refine x_iload_n HE 3 dX4_led_25 rfl rfl ?_
      refine x_callS HE dX4_led_26 rfl (fun l => k_X4_isWaiting ⟨(Lay_X4_17 (f0.ext EB)).2.1, (Lay_X4_17 (f0.ext EB)).2.2⟩ l hw) (As := [rV (x0 + 5), iV l3]) (rest := []) rfl (lw_S q2165 q2166 q129 q2167) hy_X4_isWaiting.2 rfl rfl (Nat.le_of_ble_eq_true rfl) (Nat.le_of_ble_eq_true rfl) (Nat.le_of_ble_eq_true rfl) (kkI (fun r26 m26 E26 hw => ?_))
      have hw := hw E26
      refine x_if_ne HE 35 dX4_led_29 (by decide) (fun c29 => ?_) (fun c29 => ?_)
      · have hw := hw.1 c29
        refine x_iload_n HE 2 dX4_led_35 rfl rfl ?_
        refine x_iload_n HE 1 dX4_led_36 rfl rfl ?_
        refine x_ic_ne HE 47 dX4_led_37 (by decide) (fun c37 => ?_) (fun c37 => ?_)
        · have hw := hw.1 c37
          obtain ⟨v47, hw⟩ := hw
          refine x_iincN HE (fun y47 => [some (rV x0), some (iV x1), some (iV y47), some (iV l3)]) dX4_led_47 rfl v47 (Nat.le_of_ble_eq_true rfl) (fun _ => rfl) (fun y47 ey47 => ?_)
          have hw := hw y47 ey47
          exact w_X4_led_50 HE hr f0 hK4 hw
        · have hw := hw.2 c37
          refine Wx.mask [true, true, false, true] (lo2 := [some (rV x0), some (iV x1), none, some (iV l3)]) rfl ?_
          exact w_X4_led_40 HE hr f0 hw
      · have hw := hw.2 c29
        refine x_goto HE 50 dX4_led_32 (by decide) ?_
        exact w_X4_led_50 HE hr f0 hK4 hw
theorem wl_X4_led_4 {G : GT} {X : ET} {h0 : Hp} {x0 x1 : Int} (HE : XE G X cX4_led 4 RX4 2 43 h0) (hr : XR X (some .int)) (f0 : Lay_X4 h0 x0) {Q : Int → Hp → Prop} {l2 l3 : Int} {h : Hp} (hw : Lp2 (g_X4_led_L4 x0 x1 Q) l2 l3 h) : Wx G X h0 (QI Q) h 4 [some (rV x0), some (iV x1), some (iV l2), some (iV l3)] [] := by
  obtain ⟨n, hw⟩ := hw
  induction n generalizing l2 l3 h with
  | zero => exact hw.elim
  | succ n ih => exact w_X4_led_4 HE hr f0 (fun _ _ _ hk => ih hk) hw
def g_X4_led (x0 x1 : Int) (Q : Int → Hp → Prop) (h : Hp) : Prop :=
  Lp2 (g_X4_led_L4 x0 x1 Q) 0 0 h
theorem w_X4_led_0 {G : GT} {X : ET} {h0 : Hp} {x0 x1 : Int} (HE : XE G X cX4_led 4 RX4 2 43 h0) (hr : XR X (some .int)) (f0 : Lay_X4 h0 x0) {Q : Int → Hp → Prop} {h : Hp} (hw : g_X4_led x0 x1 Q h) : Wx G X h0 (QI Q) h 0 [some (rV x0), some (iV x1), none, none] [] := by
  refine Wx.start (fun EB => ?_)
  unfold g_X4_led at hw
  refine x_iconst HE dX4_led_0 (by decide) ?_
  refine x_istore_n HE 2 (lo' := [some (rV x0), some (iV x1), some (iV 0), none]) dX4_led_1 rfl (Nat.le_of_ble_eq_true rfl) rfl ?_
  refine x_iconst HE dX4_led_2 (by decide) ?_
  refine x_istore_n HE 3 (lo' := [some (rV x0), some (iV x1), some (iV 0), some (iV 0)]) dX4_led_3 rfl (Nat.le_of_ble_eq_true rfl) rfl ?_
  exact wl_X4_led_4 HE hr f0 hw
theorem k_X4_led {G : GT} {x0 x1 : Int} {Q : Int → Hp → Prop} {h : Hp} (f0 : Lay_X4 h x0) (l : Launch) (hw : g_X4_led x0 x1 Q h) : XM G l yX4_led cX4_led 4 (some .int) 2 43 [rV x0, iV x1] (QI Q) h :=
  XM.of (by decide) (Nat.le_of_ble_eq_true rfl) (fun X HE hr hn => w_X4_led_0 HE hr f0 hw)
def g_X4_size_b38 (x0 x1 : Int) (Q : Int → Hp → Prop) (s0 : Int) (h : Hp) : Prop :=
  Q s0 h
theorem w_X4_size_38 {G : GT} {X : ET} {h0 : Hp} {x0 x1 : Int} (HE : XE G X cX4_size 2 RX4 1 22 h0) (hr : XR X (some .int)) (f0 : Lay_X4 h0 x0) {Q : Int → Hp → Prop} {s0 : Int} {h : Hp} (hw : g_X4_size_b38 x0 x1 Q s0 h) : Wx G X h0 (QI Q) h 38 [some (rV x0), some (iV x1)] [iV s0] := by
  refine Wx.start (fun EB => ?_)
  unfold g_X4_size_b38 at hw
  exact x_iret HE hr dX4_size_38 hw
def g_X4_size (x0 x1 : Int) (Q : Int → Hp → Prop) (h : Hp) : Prop :=
  ∀ m2 : Hp, m2 = setF h x0 0 0 → (((x1 ≠ 10) → ((((hF m2 x0 14) ≠ 0) → (((x1 = 0) → (Q (hA m2 (x0 + 3) 1) m2)) ∧ ((x1 = 1) → (Q (hA m2 (x0 + 3) 2) m2)) ∧ ((x1 = 2) → (Q (hA m2 (x0 + 3) 3) m2)) ∧ ((x1 = 3) → (Q (hA m2 (x0 + 3) 4) m2)) ∧ ((x1 = 4) → (Q (hA m2 (x0 + 3) 5) m2)) ∧ ((x1 = 5) → (Q (hA m2 (x0 + 3) 6) m2)) ∧ ((x1 = 6) → (Q (hA m2 (x0 + 3) 7) m2)) ∧ ((x1 = 7) → (Q (hA m2 (x0 + 5) 0) m2)) ∧ ((x1 = 8) → (Q (hF m2 x0 21) m2)) ∧ ((x1 = 9) → (Q (hF m2 x0 22) m2)) ∧ ((x1 ≠ 0 ∧ x1 ≠ 1 ∧ x1 ≠ 2 ∧ x1 ≠ 3 ∧ x1 ≠ 4 ∧ x1 ≠ 5 ∧ x1 ≠ 6 ∧ x1 ≠ 7 ∧ x1 ≠ 8 ∧ x1 ≠ 9) → (Q (-1) m2)))) ∧ (((hF m2 x0 14) = 0) → (g_X4_within x1 0 9 (fun r27 m27 => Ext m2 m27 → (((r27 = 0) → (g_X4_size_b38 x0 x1 Q (-1) m27)) ∧ ((r27 ≠ 0) → (g_X4_size_b38 x0 x1 Q 0 m27)))) m2)))) ∧ ((x1 = 10) → (Q (hF m2 x0 2) m2)))
theorem w_X4_size_0 {G : GT} {X : ET} {h0 : Hp} {x0 x1 : Int} (HE : XE G X cX4_size 2 RX4 1 22 h0) (hr : XR X (some .int)) (f0 : Lay_X4 h0 x0) {Q : Int → Hp → Prop} {h : Hp} (hw : g_X4_size x0 x1 Q h) : Wx G X h0 (QI Q) h 0 [some (rV x0), some (iV x1)] [] := by
  refine Wx.start (fun EB => ?_)
  unfold g_X4_size at hw
  refine x_aload_n HE 0 dX4_size_0 rfl rfl ?_
  refine x_iconst HE dX4_size_1 (by decide) ?_
  refine x_pI HE dX4_size_2 fd_X4_0 q1837 (Or.inl rfl) (Or.inl rfl) (nf_int _) (Lay_X4.tag (f0.ext EB)) (nro (by decide)) (Or.inl nf_X4_0) (fun m2 em2 E2 => ?_)
  have hw := hw m2 em2
  refine x_iload_n HE 1 dX4_size_5 rfl rfl ?_
  refine x_bipush HE dX4_size_6 (by decide) ?_
  refine x_ic_ne HE 16 dX4_size_8 (by decide) (fun c8 => ?_) (fun c8 => ?_)
  · have hw := hw.1 c8
    refine x_aload_n HE 0 dX4_size_16 rfl rfl ?_
    refine x_gI HE dX4_size_17 fd_X4_14 q1851 (Or.inl rfl) (Lay_X4.tag (f0.ext (EB.tr E2))) rfl ?_
    refine x_if_ne HE 39 dX4_size_20 (by decide) (fun c20 => ?_) (fun c20 => ?_)
    · have hw := hw.1 c20
      refine x_iload_n HE 1 dX4_size_39 rfl rfl ?_
      by_cases s40_0 : x1 = 0
      · have hw := hw.1 s40_0
        refine x_tabIn HE 96 dX4_size_40 0 s40_0 (by decide) rfl (by decide) ?_
        refine x_aload_n HE 0 dX4_size_96 rfl rfl ?_
        refine x_gR HE dX4_size_97 fd_X4_15 q1852 (Or.inl rfl) (Lay_X4.tag (f0.ext (EB.tr E2))) (Lay_X4_15 (f0.ext (EB.tr E2))).1 ?_
        refine x_iconst HE dX4_size_100 (by decide) ?_
        refine x_iald HE dX4_size_101 (t := 1) (by decide) ((Lay_X4_15 (f0.ext (EB.tr E2))).2.1) (ix_of ((Lay_X4_15 (f0.ext (EB.tr E2))).2.2) (by decide)) rfl ?_
        exact x_iret HE hr dX4_size_102 hw
      have hw := hw.2
      by_cases s40_1 : x1 = 1
      · have hw := hw.1 s40_1
        refine x_tabIn HE 103 dX4_size_40 1 s40_1 (by decide) rfl (by decide) ?_
        refine x_aload_n HE 0 dX4_size_103 rfl rfl ?_
        refine x_gR HE dX4_size_104 fd_X4_15 q1852 (Or.inl rfl) (Lay_X4.tag (f0.ext (EB.tr E2))) (Lay_X4_15 (f0.ext (EB.tr E2))).1 ?_
        refine x_iconst HE dX4_size_107 (by decide) ?_
        refine x_iald HE dX4_size_108 (t := 1) (by decide) ((Lay_X4_15 (f0.ext (EB.tr E2))).2.1) (ix_of ((Lay_X4_15 (f0.ext (EB.tr E2))).2.2) (by decide)) rfl ?_
        exact x_iret HE hr dX4_size_109 hw
      have hw := hw.2
      by_cases s40_2 : x1 = 2
      · have hw := hw.1 s40_2
        refine x_tabIn HE 110 dX4_size_40 2 s40_2 (by decide) rfl (by decide) ?_
        refine x_aload_n HE 0 dX4_size_110 rfl rfl ?_
        refine x_gR HE dX4_size_111 fd_X4_15 q1852 (Or.inl rfl) (Lay_X4.tag (f0.ext (EB.tr E2))) (Lay_X4_15 (f0.ext (EB.tr E2))).1 ?_
        refine x_iconst HE dX4_size_114 (by decide) ?_
        refine x_iald HE dX4_size_115 (t := 1) (by decide) ((Lay_X4_15 (f0.ext (EB.tr E2))).2.1) (ix_of ((Lay_X4_15 (f0.ext (EB.tr E2))).2.2) (by decide)) rfl ?_
        exact x_iret HE hr dX4_size_116 hw
      have hw := hw.2
      by_cases s40_3 : x1 = 3
      · have hw := hw.1 s40_3
        refine x_tabIn HE 117 dX4_size_40 3 s40_3 (by decide) rfl (by decide) ?_
        refine x_aload_n HE 0 dX4_size_117 rfl rfl ?_
        refine x_gR HE dX4_size_118 fd_X4_15 q1852 (Or.inl rfl) (Lay_X4.tag (f0.ext (EB.tr E2))) (Lay_X4_15 (f0.ext (EB.tr E2))).1 ?_
        refine x_iconst HE dX4_size_121 (by decide) ?_
        refine x_iald HE dX4_size_122 (t := 1) (by decide) ((Lay_X4_15 (f0.ext (EB.tr E2))).2.1) (ix_of ((Lay_X4_15 (f0.ext (EB.tr E2))).2.2) (by decide)) rfl ?_
        exact x_iret HE hr dX4_size_123 hw
      have hw := hw.2
      by_cases s40_4 : x1 = 4
      · have hw := hw.1 s40_4
        refine x_tabIn HE 124 dX4_size_40 4 s40_4 (by decide) rfl (by decide) ?_
        refine x_aload_n HE 0 dX4_size_124 rfl rfl ?_
        refine x_gR HE dX4_size_125 fd_X4_15 q1852 (Or.inl rfl) (Lay_X4.tag (f0.ext (EB.tr E2))) (Lay_X4_15 (f0.ext (EB.tr E2))).1 ?_
        refine x_iconst HE dX4_size_128 (by decide) ?_
        refine x_iald HE dX4_size_129 (t := 1) (by decide) ((Lay_X4_15 (f0.ext (EB.tr E2))).2.1) (ix_of ((Lay_X4_15 (f0.ext (EB.tr E2))).2.2) (by decide)) rfl ?_
        exact x_iret HE hr dX4_size_130 hw
      have hw := hw.2
      by_cases s40_5 : x1 = 5
      · have hw := hw.1 s40_5
        refine x_tabIn HE 131 dX4_size_40 5 s40_5 (by decide) rfl (by decide) ?_
        refine x_aload_n HE 0 dX4_size_131 rfl rfl ?_
        refine x_gR HE dX4_size_132 fd_X4_15 q1852 (Or.inl rfl) (Lay_X4.tag (f0.ext (EB.tr E2))) (Lay_X4_15 (f0.ext (EB.tr E2))).1 ?_
        refine x_bipush HE dX4_size_135 (by decide) ?_
        refine x_iald HE dX4_size_137 (t := 1) (by decide) ((Lay_X4_15 (f0.ext (EB.tr E2))).2.1) (ix_of ((Lay_X4_15 (f0.ext (EB.tr E2))).2.2) (by decide)) rfl ?_
        exact x_iret HE hr dX4_size_138 hw
      have hw := hw.2
      by_cases s40_6 : x1 = 6
      · have hw := hw.1 s40_6
        refine x_tabIn HE 139 dX4_size_40 6 s40_6 (by decide) rfl (by decide) ?_
        refine x_aload_n HE 0 dX4_size_139 rfl rfl ?_
        refine x_gR HE dX4_size_140 fd_X4_15 q1852 (Or.inl rfl) (Lay_X4.tag (f0.ext (EB.tr E2))) (Lay_X4_15 (f0.ext (EB.tr E2))).1 ?_
        refine x_bipush HE dX4_size_143 (by decide) ?_
        refine x_iald HE dX4_size_145 (t := 1) (by decide) ((Lay_X4_15 (f0.ext (EB.tr E2))).2.1) (ix_of ((Lay_X4_15 (f0.ext (EB.tr E2))).2.2) (by decide)) rfl ?_
        exact x_iret HE hr dX4_size_146 hw
      have hw := hw.2
      by_cases s40_7 : x1 = 7
      · have hw := hw.1 s40_7
        refine x_tabIn HE 147 dX4_size_40 7 s40_7 (by decide) rfl (by decide) ?_
        refine x_aload_n HE 0 dX4_size_147 rfl rfl ?_
        refine x_gR HE dX4_size_148 fd_X4_17 q1854 (Or.inl rfl) (Lay_X4.tag (f0.ext (EB.tr E2))) (Lay_X4_17 (f0.ext (EB.tr E2))).1 ?_
        refine x_iconst HE dX4_size_151 (by decide) ?_
        refine x_iald HE dX4_size_152 (t := 1) (by decide) ((Lay_X4_17 (f0.ext (EB.tr E2))).2.1) (ix_of ((Lay_X4_17 (f0.ext (EB.tr E2))).2.2) (by decide)) rfl ?_
        exact x_iret HE hr dX4_size_153 hw
      have hw := hw.2
      by_cases s40_8 : x1 = 8
      · have hw := hw.1 s40_8
        refine x_tabIn HE 154 dX4_size_40 8 s40_8 (by decide) rfl (by decide) ?_
        refine x_aload_n HE 0 dX4_size_154 rfl rfl ?_
        refine x_gI HE dX4_size_155 fd_X4_21 q1858 (Or.inl rfl) (Lay_X4.tag (f0.ext (EB.tr E2))) rfl ?_
        exact x_iret HE hr dX4_size_158 hw
      have hw := hw.2
      by_cases s40_9 : x1 = 9
      · have hw := hw.1 s40_9
        refine x_tabIn HE 159 dX4_size_40 9 s40_9 (by decide) rfl (by decide) ?_
        refine x_aload_n HE 0 dX4_size_159 rfl rfl ?_
        refine x_gI HE dX4_size_160 fd_X4_22 q1859 (Or.inl rfl) (Lay_X4.tag (f0.ext (EB.tr E2))) rfl ?_
        exact x_iret HE hr dX4_size_163 hw
      have hw := hw.2
      have hw := hw ⟨s40_0, s40_1, s40_2, s40_3, s40_4, s40_5, s40_6, s40_7, s40_8, s40_9⟩
      refine x_tabOut HE 164 dX4_size_40 (tabE (tabS (b := 10) (tabS (b := 9) (tabS (b := 8) (tabS (b := 7) (tabS (b := 6) (tabS (b := 5) (tabS (b := 4) (tabS (b := 3) (tabS (b := 2) (tabS (b := 1) (Int.lt_or_le x1 0) (by decide) s40_0) (by decide) s40_1) (by decide) s40_2) (by decide) s40_3) (by decide) s40_4) (by decide) s40_5) (by decide) s40_6) (by decide) s40_7) (by decide) s40_8) (by decide) s40_9) (by decide)) (by decide) ?_
      refine x_iconst HE dX4_size_164 (by decide) ?_
      exact x_iret HE hr dX4_size_165 hw
    · have hw := hw.2 c20
      refine x_iload_n HE 1 dX4_size_23 rfl rfl ?_
      refine x_iconst HE dX4_size_24 (by decide) ?_
      refine x_bipush HE dX4_size_25 (by decide) ?_
      refine x_callS HE dX4_size_27 rfl (fun l => k_X4_within  l hw) (As := [iV x1, iV 0, iV 9]) (rest := []) rfl (lw_S q1959 q1960 q129 q1961) hy_X4_within.2 rfl rfl (Nat.le_of_ble_eq_true rfl) (Nat.le_of_ble_eq_true rfl) (Nat.le_of_ble_eq_true rfl) (kkI (fun r27 m27 E27 hw => ?_))
      have hw := hw E27
      refine x_if_eq HE 37 dX4_size_30 (by decide) (fun c30 => ?_) (fun c30 => ?_)
      · have hw := hw.1 c30
        refine x_iconst HE dX4_size_37 (by decide) ?_
        exact w_X4_size_38 HE hr f0 hw
      · have hw := hw.2 c30
        refine x_iconst HE dX4_size_33 (by decide) ?_
        refine x_goto HE 38 dX4_size_34 (by decide) ?_
        exact w_X4_size_38 HE hr f0 hw
  · have hw := hw.2 c8
    refine x_aload_n HE 0 dX4_size_11 rfl rfl ?_
    refine x_gI HE dX4_size_12 fd_X4_2 q1839 (Or.inl rfl) (Lay_X4.tag (f0.ext (EB.tr E2))) rfl ?_
    exact x_iret HE hr dX4_size_15 hw
theorem k_X4_size {G : GT} {x0 x1 : Int} {Q : Int → Hp → Prop} {h : Hp} (f0 : Lay_X4 h x0) (l : Launch) (hw : g_X4_size x0 x1 Q h) : XM G l yX4_size cX4_size 2 (some .int) 1 22 [rV x0, iV x1] (QI Q) h :=
  XM.of (by decide) (Nat.le_of_ble_eq_true rfl) (fun X HE hr hn => w_X4_size_0 HE hr f0 hw)
def g_X4_trouble (x0 : Int) (Q : Int → Hp → Prop) (h : Hp) : Prop :=
  ∀ m2 : Hp, m2 = setF h x0 0 0 → (Q (hF m2 x0 11) m2)
theorem w_X4_trouble_0 {G : GT} {X : ET} {h0 : Hp} {x0 : Int} (HE : XE G X cX4_trouble 1 RX4 0 0 h0) (hr : XR X (some .int)) (f0 : Lay_X4 h0 x0) {Q : Int → Hp → Prop} {h : Hp} (hw : g_X4_trouble x0 Q h) : Wx G X h0 (QI Q) h 0 [some (rV x0)] [] := by
  refine Wx.start (fun EB => ?_)
  unfold g_X4_trouble at hw
  refine x_aload_n HE 0 dX4_trouble_0 rfl rfl ?_
  refine x_iconst HE dX4_trouble_1 (by decide) ?_
  refine x_pI HE dX4_trouble_2 fd_X4_0 q1837 (Or.inl rfl) (Or.inl rfl) (nf_int _) (Lay_X4.tag (f0.ext EB)) (nro (by decide)) (Or.inl nf_X4_0) (fun m2 em2 E2 => ?_)
  have hw := hw m2 em2
  refine x_aload_n HE 0 dX4_trouble_5 rfl rfl ?_
  refine x_gI HE dX4_trouble_6 fd_X4_11 q1848 (Or.inl rfl) (Lay_X4.tag (f0.ext (EB.tr E2))) rfl ?_
  exact x_iret HE hr dX4_trouble_9 hw
theorem k_X4_trouble {G : GT} {x0 : Int} {Q : Int → Hp → Prop} {h : Hp} (f0 : Lay_X4 h x0) (l : Launch) (hw : g_X4_trouble x0 Q h) : XM G l yX4_trouble cX4_trouble 1 (some .int) 0 0 [rV x0] (QI Q) h :=
  XM.of (by decide) (Nat.le_of_ble_eq_true rfl) (fun X HE hr hn => w_X4_trouble_0 HE hr f0 hw)
