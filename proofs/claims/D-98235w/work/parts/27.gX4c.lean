/-! written by tools/mkgen2.py -/
set_option maxRecDepth 100000
def g_X4_tellEvening (x0 : Int) (Q : Hp → Prop) (h : Hp) : Prop :=
  g_X4_asTold x0 (fun m1 => Ext h m1 → (∀ m11 : Hp, m11 = setF m1 x0 26 (hA m1 (x0 + 3) 2) → (g_X4_evening x0 (fun m15 => Ext m11 m15 → (Q m15)) m11))) h
theorem w_X4_tellEvening_0 {G : GT} {X : ET} {h0 : Hp} {x0 : Int} (HE : XE G X cX4_tellEvening 1 RX4 6 146 h0) (hr : XR X none) (f0 : Lay_X4 h0 x0) {Q : Hp → Prop} {h : Hp} (hw : g_X4_tellEvening x0 Q h) : Wx G X h0 (QV Q) h 0 [some (rV x0)] [] := by
  refine Wx.start (fun EB => ?_)
  unfold g_X4_tellEvening at hw
  refine x_aload_n HE 0 dX4_tellEvening_0 rfl rfl ?_
  refine x_callV HE dX4_tellEvening_1 rfl (fun l => k_X4_asTold (f0.ext EB) l hw) (As := []) (rest := []) rfl xc10 (Lay_X4.tag (f0.ext EB)) (lw_V q2116 q2118 qs80 q129 q2119) hy_X4_asTold rfl rfl (Nat.le_of_ble_eq_true rfl) (Nat.le_of_ble_eq_true rfl) (Nat.le_of_ble_eq_true rfl) (kkV (fun m1 E1 hw => ?_))
  have hw := hw E1
  refine x_aload_n HE 0 dX4_tellEvening_4 rfl rfl ?_
  refine x_aload_n HE 0 dX4_tellEvening_5 rfl rfl ?_
  refine x_gR HE dX4_tellEvening_6 fd_X4_15 q1852 (Or.inl rfl) (Lay_X4.tag (f0.ext (EB.tr E1))) (Lay_X4_15 (f0.ext (EB.tr E1))).1 ?_
  refine x_iconst HE dX4_tellEvening_9 (by decide) ?_
  refine x_iald HE dX4_tellEvening_10 (t := 1) (by decide) ((Lay_X4_15 (f0.ext (EB.tr E1))).2.1) (ix_of ((Lay_X4_15 (f0.ext (EB.tr E1))).2.2) (by decide)) rfl ?_
  refine x_pI HE dX4_tellEvening_11 fd_X4_26 q1863 (Or.inl rfl) (Or.inl rfl) (nf_int _) (Lay_X4.tag (f0.ext (EB.tr E1))) (nro (by decide)) (Or.inl nf_X4_26) (fun m11 em11 E11 => ?_)
  have hw := hw m11 em11
  refine x_aload_n HE 0 dX4_tellEvening_14 rfl rfl ?_
  refine x_callV HE dX4_tellEvening_15 rfl (fun l => k_X4_evening (f0.ext (EB.tr (E1.tr E11))) l hw) (As := []) (rest := []) rfl xc10 (Lay_X4.tag (f0.ext (EB.tr (E1.tr E11)))) (lw_V q2226 q2228 qs95 q129 q2229) hy_X4_evening rfl rfl (Nat.le_of_ble_eq_true rfl) (Nat.le_of_ble_eq_true rfl) (Nat.le_of_ble_eq_true rfl) (kkV (fun m15 E15 hw => ?_))
  have hw := hw E15
  exact x_vret HE hr dX4_tellEvening_18 hw
theorem k_X4_tellEvening {G : GT} {x0 : Int} {Q : Hp → Prop} {h : Hp} (f0 : Lay_X4 h x0) (l : Launch) (hw : g_X4_tellEvening x0 Q h) : XM G l yX4_tellEvening cX4_tellEvening 1 none 6 146 [rV x0] (QV Q) h :=
  XM.of (by decide) (Nat.le_of_ble_eq_true rfl) (fun X HE hr hn => w_X4_tellEvening_0 HE hr f0 hw)
def g_X4_fateOf_b61 (x0 x1 : Int) (Q : Int → Hp → Prop) (s0 : Int) (h : Hp) : Prop :=
  Q s0 h
theorem w_X4_fateOf_61 {G : GT} {X : ET} {h0 : Hp} {x0 x1 : Int} (HE : XE G X cX4_fateOf 2 RX4 1 22 h0) (hr : XR X (some .int)) (f0 : Lay_X4 h0 x0) {Q : Int → Hp → Prop} {s0 : Int} {h : Hp} (hw : g_X4_fateOf_b61 x0 x1 Q s0 h) : Wx G X h0 (QI Q) h 61 [some (rV x0), some (iV x1)] [iV s0] := by
  refine Wx.start (fun EB => ?_)
  unfold g_X4_fateOf_b61 at hw
  exact x_iret HE hr dX4_fateOf_61 hw
def g_X4_fateOf (x0 x1 : Int) (Q : Int → Hp → Prop) (h : Hp) : Prop :=
  g_X4_its (x0 + 6) x1 0 (fun r6 m6 => Ext h m6 → (((r6 = 2) → (Q 0 m6)) ∧ ((r6 = 3) → (g_X4_its (x0 + 6) x1 4 (fun r48 m48 => Ext m6 m48 → (((r48 ≠ (-2)) → (g_X4_fateOf_b61 x0 x1 Q 0 m48)) ∧ ((r48 = (-2)) → (g_X4_fateOf_b61 x0 x1 Q 1 m48)))) m6)) ∧ ((r6 = 4) → (Q 2 m6)) ∧ ((r6 = 5) → (Q 4 m6)) ∧ ((r6 ≠ 2 ∧ r6 ≠ 3 ∧ r6 ≠ 4 ∧ r6 ≠ 5) → (Q 3 m6)))) h
theorem w_X4_fateOf_0 {G : GT} {X : ET} {h0 : Hp} {x0 x1 : Int} (HE : XE G X cX4_fateOf 2 RX4 1 22 h0) (hr : XR X (some .int)) (f0 : Lay_X4 h0 x0) {Q : Int → Hp → Prop} {h : Hp} (hw : g_X4_fateOf x0 x1 Q h) : Wx G X h0 (QI Q) h 0 [some (rV x0), some (iV x1)] [] := by
  refine Wx.start (fun EB => ?_)
  unfold g_X4_fateOf at hw
  refine x_aload_n HE 0 dX4_fateOf_0 rfl rfl ?_
  refine x_gR HE dX4_fateOf_1 fd_X4_18 q1855 (Or.inl rfl) (Lay_X4.tag (f0.ext EB)) (Lay_X4_18 (f0.ext EB)).1 ?_
  refine x_iload_n HE 1 dX4_fateOf_4 rfl rfl ?_
  refine x_iconst HE dX4_fateOf_5 (by decide) ?_
  refine x_callS HE dX4_fateOf_6 rfl (fun l => k_X4_its ⟨(Lay_X4_18 (f0.ext EB)).2.1, (Lay_X4_18 (f0.ext EB)).2.2⟩ l hw) (As := [rV (x0 + 6), iV x1, iV 0]) (rest := []) rfl (lw_S q2168 q2169 q129 q2170) hy_X4_its.2 rfl rfl (Nat.le_of_ble_eq_true rfl) (Nat.le_of_ble_eq_true rfl) (Nat.le_of_ble_eq_true rfl) (kkI (fun r6 m6 E6 hw => ?_))
  have hw := hw E6
  by_cases s9_2 : r6 = 2
  · have hw := hw.1 s9_2
    refine x_tabIn HE 40 dX4_fateOf_9 2 s9_2 (by decide) rfl (by decide) ?_
    refine x_iconst HE dX4_fateOf_40 (by decide) ?_
    exact x_iret HE hr dX4_fateOf_41 hw
  have hw := hw.2
  by_cases s9_3 : r6 = 3
  · have hw := hw.1 s9_3
    refine x_tabIn HE 42 dX4_fateOf_9 3 s9_3 (by decide) rfl (by decide) ?_
    refine x_aload_n HE 0 dX4_fateOf_42 rfl rfl ?_
    refine x_gR HE dX4_fateOf_43 fd_X4_18 q1855 (Or.inl rfl) (Lay_X4.tag (f0.ext (EB.tr E6))) (Lay_X4_18 (f0.ext (EB.tr E6))).1 ?_
    refine x_iload_n HE 1 dX4_fateOf_46 rfl rfl ?_
    refine x_iconst HE dX4_fateOf_47 (by decide) ?_
    refine x_callS HE dX4_fateOf_48 rfl (fun l => k_X4_its ⟨(Lay_X4_18 (f0.ext (EB.tr E6))).2.1, (Lay_X4_18 (f0.ext (EB.tr E6))).2.2⟩ l hw) (As := [rV (x0 + 6), iV x1, iV 4]) (rest := []) rfl (lw_S q2168 q2169 q129 q2170) hy_X4_its.2 rfl rfl (Nat.le_of_ble_eq_true rfl) (Nat.le_of_ble_eq_true rfl) (Nat.le_of_ble_eq_true rfl) (kkI (fun r48 m48 E48 hw => ?_))
    have hw := hw E48
    refine x_bipush HE dX4_fateOf_51 (by decide) ?_
    refine x_ic_ne HE 60 dX4_fateOf_53 (by decide) (fun c53 => ?_) (fun c53 => ?_)
    · have hw := hw.1 c53
      refine x_iconst HE dX4_fateOf_60 (by decide) ?_
      exact w_X4_fateOf_61 HE hr f0 hw
    · have hw := hw.2 c53
      refine x_iconst HE dX4_fateOf_56 (by decide) ?_
      refine x_goto HE 61 dX4_fateOf_57 (by decide) ?_
      exact w_X4_fateOf_61 HE hr f0 hw
  have hw := hw.2
  by_cases s9_4 : r6 = 4
  · have hw := hw.1 s9_4
    refine x_tabIn HE 62 dX4_fateOf_9 4 s9_4 (by decide) rfl (by decide) ?_
    refine x_iconst HE dX4_fateOf_62 (by decide) ?_
    exact x_iret HE hr dX4_fateOf_63 hw
  have hw := hw.2
  by_cases s9_5 : r6 = 5
  · have hw := hw.1 s9_5
    refine x_tabIn HE 64 dX4_fateOf_9 5 s9_5 (by decide) rfl (by decide) ?_
    refine x_iconst HE dX4_fateOf_64 (by decide) ?_
    exact x_iret HE hr dX4_fateOf_65 hw
  have hw := hw.2
  have hw := hw ⟨s9_2, s9_3, s9_4, s9_5⟩
  refine x_tabOut HE 66 dX4_fateOf_9 (tabE (tabS (b := 6) (tabS (b := 5) (tabS (b := 4) (tabS (b := 3) (Int.lt_or_le r6 2) (by decide) s9_2) (by decide) s9_3) (by decide) s9_4) (by decide) s9_5) (by decide)) (by decide) ?_
  refine x_iconst HE dX4_fateOf_66 (by decide) ?_
  exact x_iret HE hr dX4_fateOf_67 hw
theorem k_X4_fateOf {G : GT} {x0 x1 : Int} {Q : Int → Hp → Prop} {h : Hp} (f0 : Lay_X4 h x0) (l : Launch) (hw : g_X4_fateOf x0 x1 Q h) : XM G l yX4_fateOf cX4_fateOf 2 (some .int) 1 22 [rV x0, iV x1] (QI Q) h :=
  XM.of (by decide) (Nat.le_of_ble_eq_true rfl) (fun X HE hr hn => w_X4_fateOf_0 HE hr f0 hw)
def g_X4_fate (x0 x1 : Int) (Q : Int → Hp → Prop) (h : Hp) : Prop :=
  g_X4_good x0 (fun m1 => Ext h m1 → (g_X4_isPerson x0 x1 (fun r6 m6 => Ext m1 m6 → (((r6 ≠ 0) → (g_X4_tellEvening x0 (fun m19 => Ext m6 m19 → (g_X4_fateOf x0 x1 (fun r24 m24 => Ext m19 m24 → (Q r24 m24)) m19)) m6)) ∧ ((r6 = 0) → (g_X4_no x0 1 (fun r14 m14 => Ext m6 m14 → (Q r14 m14)) m6)))) m1)) h
theorem w_X4_fate_0 {G : GT} {X : ET} {h0 : Hp} {x0 x1 : Int} (HE : XE G X cX4_fate 2 RX4 7 166 h0) (hr : XR X (some .int)) (f0 : Lay_X4 h0 x0) {Q : Int → Hp → Prop} {h : Hp} (hw : g_X4_fate x0 x1 Q h) : Wx G X h0 (QI Q) h 0 [some (rV x0), some (iV x1)] [] := by
  refine Wx.start (fun EB => ?_)
  unfold g_X4_fate at hw
  refine x_aload_n HE 0 dX4_fate_0 rfl rfl ?_
  refine x_callV HE dX4_fate_1 rfl (fun l => k_X4_good (f0.ext EB) l hw) (As := []) (rest := []) rfl xc10 (Lay_X4.tag (f0.ext EB)) (lw_V q1955 q1957 qs55 q129 q1958) hy_X4_good rfl rfl (Nat.le_of_ble_eq_true rfl) (Nat.le_of_ble_eq_true rfl) (Nat.le_of_ble_eq_true rfl) (kkV (fun m1 E1 hw => ?_))
  have hw := hw E1
  refine x_aload_n HE 0 dX4_fate_4 rfl rfl ?_
  refine x_iload_n HE 1 dX4_fate_5 rfl rfl ?_
  refine x_callV HE dX4_fate_6 rfl (fun l => k_X4_isPerson (f0.ext (EB.tr E1)) l hw) (As := [iV x1]) (rest := []) rfl xc10 (Lay_X4.tag (f0.ext (EB.tr E1))) (lw_V q2144 q2146 qs84 q129 q2147) hy_X4_isPerson rfl rfl (Nat.le_of_ble_eq_true rfl) (Nat.le_of_ble_eq_true rfl) (Nat.le_of_ble_eq_true rfl) (kkI (fun r6 m6 E6 hw => ?_))
  have hw := hw E6
  refine x_if_ne HE 18 dX4_fate_9 (by decide) (fun c9 => ?_) (fun c9 => ?_)
  · have hw := hw.1 c9
    refine x_aload_n HE 0 dX4_fate_18 rfl rfl ?_
    refine x_callV HE dX4_fate_19 rfl (fun l => k_X4_tellEvening (f0.ext (EB.tr (E1.tr E6))) l hw) (As := []) (rest := []) rfl xc10 (Lay_X4.tag (f0.ext (EB.tr (E1.tr E6)))) (lw_V q2222 q2224 qs94 q129 q2225) hy_X4_tellEvening rfl rfl (Nat.le_of_ble_eq_true rfl) (Nat.le_of_ble_eq_true rfl) (Nat.le_of_ble_eq_true rfl) (kkV (fun m19 E19 hw => ?_))
    have hw := hw E19
    refine x_aload_n HE 0 dX4_fate_22 rfl rfl ?_
    refine x_iload_n HE 1 dX4_fate_23 rfl rfl ?_
    refine x_callV HE dX4_fate_24 rfl (fun l => k_X4_fateOf (f0.ext (EB.tr (E1.tr (E6.tr E19)))) l hw) (As := [iV x1]) (rest := []) rfl xc10 (Lay_X4.tag (f0.ext (EB.tr (E1.tr (E6.tr E19))))) (lw_V q2238 q2240 qs98 q129 q2241) hy_X4_fateOf rfl rfl (Nat.le_of_ble_eq_true rfl) (Nat.le_of_ble_eq_true rfl) (Nat.le_of_ble_eq_true rfl) (kkI (fun r24 m24 E24 hw => ?_))
    have hw := hw E24
    exact x_iret HE hr dX4_fate_27 hw
  · have hw := hw.2 c9
    refine x_aload_n HE 0 dX4_fate_12 rfl rfl ?_
    refine x_iconst HE dX4_fate_13 (by decide) ?_
    refine x_callV HE dX4_fate_14 rfl (fun l => k_X4_no (f0.ext (EB.tr (E1.tr E6))) l hw) (As := [iV 1]) (rest := []) rfl xc10 (Lay_X4.tag (f0.ext (EB.tr (E1.tr E6)))) (lw_V q1962 q1964 qs56 q129 q1965) hy_X4_no rfl rfl (Nat.le_of_ble_eq_true rfl) (Nat.le_of_ble_eq_true rfl) (Nat.le_of_ble_eq_true rfl) (kkI (fun r14 m14 E14 hw => ?_))
    have hw := hw E14
    exact x_iret HE hr dX4_fate_17 hw
theorem k_X4_fate {G : GT} {x0 x1 : Int} {Q : Int → Hp → Prop} {h : Hp} (f0 : Lay_X4 h x0) (l : Launch) (hw : g_X4_fate x0 x1 Q h) : XM G l yX4_fate cX4_fate 2 (some .int) 7 166 [rV x0, iV x1] (QI Q) h :=
  XM.of (by decide) (Nat.le_of_ble_eq_true rfl) (fun X HE hr hn => w_X4_fate_0 HE hr f0 hw)
def g_X4_waitOf_b70 (x0 x1 : Int) (Q : Int → Hp → Prop) (s0 : Int) (h : Hp) : Prop :=
  g_X4_man x0 x1 2 (fun r75 m75 => Ext h m75 → ((i32 (s0 - r75)) ∧ (Q (s0 - r75) m75))) h
theorem w_X4_waitOf_70 {G : GT} {X : ET} {h0 : Hp} {x0 x1 : Int} (HE : XE G X cX4_waitOf 3 RX4 2 43 h0) (hr : XR X (some .int)) (f0 : Lay_X4 h0 x0) {Q : Int → Hp → Prop} {s0 : Int} {h : Hp} (hw : g_X4_waitOf_b70 x0 x1 Q s0 h) : Wx G X h0 (QI Q) h 70 [some (rV x0), some (iV x1), none] [iV s0] := by
  refine Wx.start (fun EB => ?_)
  unfold g_X4_waitOf_b70 at hw
  refine x_istore_n HE 2 (lo' := [some (rV x0), some (iV x1), some (iV s0)]) dX4_waitOf_70 rfl (Nat.le_of_ble_eq_true rfl) rfl ?_
  refine x_iload_n HE 2 dX4_waitOf_71 rfl rfl ?_
  refine x_aload_n HE 0 dX4_waitOf_72 rfl rfl ?_
  refine x_iload_n HE 1 dX4_waitOf_73 rfl rfl ?_
  refine x_iconst HE dX4_waitOf_74 (by decide) ?_
  refine x_callV HE dX4_waitOf_75 rfl (fun l => k_X4_man (f0.ext EB) l hw) (As := [iV x1, iV 2]) (rest := [iV s0]) rfl xc10 (Lay_X4.tag (f0.ext EB)) (lw_V q2124 q2126 qs82 q129 q2127) hy_X4_man rfl rfl (Nat.le_of_ble_eq_true rfl) (Nat.le_of_ble_eq_true rfl) (Nat.le_of_ble_eq_true rfl) (kkI (fun r75 m75 E75 hw => ?_))
  have hw := hw E75
  obtain ⟨v78, hw⟩ := hw
  refine x_isub HE dX4_waitOf_78 v78 ?_
  exact x_iret HE hr dX4_waitOf_79 hw
def g_X4_waitOf (x0 x1 : Int) (Q : Int → Hp → Prop) (h : Hp) : Prop :=
  g_X4_fateOf x0 x1 (fun r2 m2 => Ext h m2 → (((r2 ≠ 4) → (g_X4_its (x0 + 6) x1 4 (fun r18 m18 => Ext m2 m18 → (((r18 = (-2)) → (g_X4_its (x0 + 6) x1 7 (fun r45 m45 => Ext m18 m45 → (((r45 = (-2)) → (g_X4_waitOf_b70 x0 x1 Q (hF m45 x0 26) m45)) ∧ ((r45 ≠ (-2)) → (g_X4_its (x0 + 6) x1 7 (fun r60 m60 => Ext m45 m60 → (g_X4_waitOf_b70 x0 x1 Q r60 m60)) m45)))) m18)) ∧ ((r18 ≠ (-2)) → (g_X4_its (x0 + 6) x1 4 (fun r32 m32 => Ext m18 m32 → (g_X4_waitOf_b70 x0 x1 Q r32 m32)) m18)))) m2)) ∧ ((r2 = 4) → (Q (-2) m2)))) h
theorem w_X4_waitOf_0 {G : GT} {X : ET} {h0 : Hp} {x0 x1 : Int} (HE : XE G X cX4_waitOf 3 RX4 2 43 h0) (hr : XR X (some .int)) (f0 : Lay_X4 h0 x0) {Q : Int → Hp → Prop} {h : Hp} (hw : g_X4_waitOf x0 x1 Q h) : Wx G X h0 (QI Q) h 0 [some (rV x0), some (iV x1), none] [] := by
  refine Wx.start (fun EB => ?_)
  unfold g_X4_waitOf at hw
  refine x_aload_n HE 0 dX4_waitOf_0 rfl rfl ?_
  refine x_iload_n HE 1 dX4_waitOf_1 rfl rfl ?_
  refine x_callV HE dX4_waitOf_2 rfl (fun l => k_X4_fateOf (f0.ext EB) l hw) (As := [iV x1]) (rest := []) rfl xc10 (Lay_X4.tag (f0.ext EB)) (lw_V q2238 q2240 qs98 q129 q2241) hy_X4_fateOf rfl rfl (Nat.le_of_ble_eq_true rfl) (Nat.le_of_ble_eq_true rfl) (Nat.le_of_ble_eq_true rfl) (kkI (fun r2 m2 E2 hw => ?_))
  have hw := hw E2
  refine x_iconst HE dX4_waitOf_5 (by decide) ?_
  refine x_ic_ne HE 12 dX4_waitOf_6 (by decide) (fun c6 => ?_) (fun c6 => ?_)
  · have hw := hw.1 c6
    refine x_aload_n HE 0 dX4_waitOf_12 rfl rfl ?_
    refine x_gR HE dX4_waitOf_13 fd_X4_18 q1855 (Or.inl rfl) (Lay_X4.tag (f0.ext (EB.tr E2))) (Lay_X4_18 (f0.ext (EB.tr E2))).1 ?_
    refine x_iload_n HE 1 dX4_waitOf_16 rfl rfl ?_
    refine x_iconst HE dX4_waitOf_17 (by decide) ?_
    refine x_callS HE dX4_waitOf_18 rfl (fun l => k_X4_its ⟨(Lay_X4_18 (f0.ext (EB.tr E2))).2.1, (Lay_X4_18 (f0.ext (EB.tr E2))).2.2⟩ l hw) (As := [rV (x0 + 6), iV x1, iV 4]) (rest := []) rfl (lw_S q2168 q2169 q129 q2170) hy_X4_its.2 rfl rfl (Nat.le_of_ble_eq_true rfl) (Nat.le_of_ble_eq_true rfl) (Nat.le_of_ble_eq_true rfl) (kkI (fun r18 m18 E18 hw => ?_))
    have hw := hw E18
    refine x_bipush HE dX4_waitOf_21 (by decide) ?_
    refine x_ic_eq HE 38 dX4_waitOf_23 (by decide) (fun c23 => ?_) (fun c23 => ?_)
    · have hw := hw.1 c23
      refine x_aload_n HE 0 dX4_waitOf_38 rfl rfl ?_
      refine x_gR HE dX4_waitOf_39 fd_X4_18 q1855 (Or.inl rfl) (Lay_X4.tag (f0.ext (EB.tr (E2.tr E18)))) (Lay_X4_18 (f0.ext (EB.tr (E2.tr E18)))).1 ?_
      refine x_iload_n HE 1 dX4_waitOf_42 rfl rfl ?_
      refine x_bipush HE dX4_waitOf_43 (by decide) ?_
      refine x_callS HE dX4_waitOf_45 rfl (fun l => k_X4_its ⟨(Lay_X4_18 (f0.ext (EB.tr (E2.tr E18)))).2.1, (Lay_X4_18 (f0.ext (EB.tr (E2.tr E18)))).2.2⟩ l hw) (As := [rV (x0 + 6), iV x1, iV 7]) (rest := []) rfl (lw_S q2168 q2169 q129 q2170) hy_X4_its.2 rfl rfl (Nat.le_of_ble_eq_true rfl) (Nat.le_of_ble_eq_true rfl) (Nat.le_of_ble_eq_true rfl) (kkI (fun r45 m45 E45 hw => ?_))
      have hw := hw E45
      refine x_bipush HE dX4_waitOf_48 (by decide) ?_
      refine x_ic_eq HE 66 dX4_waitOf_50 (by decide) (fun c50 => ?_) (fun c50 => ?_)
      · have hw := hw.1 c50
        refine x_aload_n HE 0 dX4_waitOf_66 rfl rfl ?_
        refine x_gI HE dX4_waitOf_67 fd_X4_26 q1863 (Or.inl rfl) (Lay_X4.tag (f0.ext (EB.tr (E2.tr (E18.tr E45))))) rfl ?_
        exact w_X4_waitOf_70 HE hr f0 hw
      · have hw := hw.2 c50
        refine x_aload_n HE 0 dX4_waitOf_53 rfl rfl ?_
        refine x_gR HE dX4_waitOf_54 fd_X4_18 q1855 (Or.inl rfl) (Lay_X4.tag (f0.ext (EB.tr (E2.tr (E18.tr E45))))) (Lay_X4_18 (f0.ext (EB.tr (E2.tr (E18.tr E45))))).1 ?_
        refine x_iload_n HE 1 dX4_waitOf_57 rfl rfl ?_
        refine x_bipush HE dX4_waitOf_58 (by decide) ?_
        refine x_callS HE dX4_waitOf_60 rfl (fun l => k_X4_its ⟨(Lay_X4_18 (f0.ext (EB.tr (E2.tr (E18.tr E45))))).2.1, (Lay_X4_18 (f0.ext (EB.tr (E2.tr (E18.tr E45))))).2.2⟩ l hw) (As := [rV (x0 + 6), iV x1, iV 7]) (rest := []) rfl (lw_S q2168 q2169 q129 q2170) hy_X4_its.2 rfl rfl (Nat.le_of_ble_eq_true rfl) (Nat.le_of_ble_eq_true rfl) (Nat.le_of_ble_eq_true rfl) (kkI (fun r60 m60 E60 hw => ?_))
        have hw := hw E60
        refine x_goto HE 70 dX4_waitOf_63 (by decide) ?_
        exact w_X4_waitOf_70 HE hr f0 hw
    · have hw := hw.2 c23
      refine x_aload_n HE 0 dX4_waitOf_26 rfl rfl ?_
      refine x_gR HE dX4_waitOf_27 fd_X4_18 q1855 (Or.inl rfl) (Lay_X4.tag (f0.ext (EB.tr (E2.tr E18)))) (Lay_X4_18 (f0.ext (EB.tr (E2.tr E18)))).1 ?_
      refine x_iload_n HE 1 dX4_waitOf_30 rfl rfl ?_
      refine x_iconst HE dX4_waitOf_31 (by decide) ?_
      refine x_callS HE dX4_waitOf_32 rfl (fun l => k_X4_its ⟨(Lay_X4_18 (f0.ext (EB.tr (E2.tr E18)))).2.1, (Lay_X4_18 (f0.ext (EB.tr (E2.tr E18)))).2.2⟩ l hw) (As := [rV (x0 + 6), iV x1, iV 4]) (rest := []) rfl (lw_S q2168 q2169 q129 q2170) hy_X4_its.2 rfl rfl (Nat.le_of_ble_eq_true rfl) (Nat.le_of_ble_eq_true rfl) (Nat.le_of_ble_eq_true rfl) (kkI (fun r32 m32 E32 hw => ?_))
      have hw := hw E32
      refine x_goto HE 70 dX4_waitOf_35 (by decide) ?_
      exact w_X4_waitOf_70 HE hr f0 hw
  · have hw := hw.2 c6
    refine x_bipush HE dX4_waitOf_9 (by decide) ?_
    exact x_iret HE hr dX4_waitOf_11 hw
theorem k_X4_waitOf {G : GT} {x0 x1 : Int} {Q : Int → Hp → Prop} {h : Hp} (f0 : Lay_X4 h x0) (l : Launch) (hw : g_X4_waitOf x0 x1 Q h) : XM G l yX4_waitOf cX4_waitOf 3 (some .int) 2 43 [rV x0, iV x1] (QI Q) h :=
  XM.of (by decide) (Nat.le_of_ble_eq_true rfl) (fun X HE hr hn => w_X4_waitOf_0 HE hr f0 hw)
def g_X4_waits (x0 x1 : Int) (Q : Int → Hp → Prop) (h : Hp) : Prop :=
  g_X4_good x0 (fun m1 => Ext h m1 → (g_X4_isPerson x0 x1 (fun r6 m6 => Ext m1 m6 → (((r6 ≠ 0) → (g_X4_tellEvening x0 (fun m19 => Ext m6 m19 → (g_X4_waitOf x0 x1 (fun r24 m24 => Ext m19 m24 → (Q r24 m24)) m19)) m6)) ∧ ((r6 = 0) → (g_X4_no x0 1 (fun r14 m14 => Ext m6 m14 → (Q r14 m14)) m6)))) m1)) h
theorem w_X4_waits_0 {G : GT} {X : ET} {h0 : Hp} {x0 x1 : Int} (HE : XE G X cX4_waits 2 RX4 7 166 h0) (hr : XR X (some .int)) (f0 : Lay_X4 h0 x0) {Q : Int → Hp → Prop} {h : Hp} (hw : g_X4_waits x0 x1 Q h) : Wx G X h0 (QI Q) h 0 [some (rV x0), some (iV x1)] [] := by
  refine Wx.start (fun EB => ?_)
  unfold g_X4_waits at hw
  refine x_aload_n HE 0 dX4_waits_0 rfl rfl ?_
  refine x_callV HE dX4_waits_1 rfl (fun l => k_X4_good (f0.ext EB) l hw) (As := []) (rest := []) rfl xc10 (Lay_X4.tag (f0.ext EB)) (lw_V q1955 q1957 qs55 q129 q1958) hy_X4_good rfl rfl (Nat.le_of_ble_eq_true rfl) (Nat.le_of_ble_eq_true rfl) (Nat.le_of_ble_eq_true rfl) (kkV (fun m1 E1 hw => ?_))
  have hw := hw E1
  refine x_aload_n HE 0 dX4_waits_4 rfl rfl ?_
  refine x_iload_n HE 1 dX4_waits_5 rfl rfl ?_
  refine x_callV HE dX4_waits_6 rfl (fun l => k_X4_isPerson (f0.ext (EB.tr E1)) l hw) (As := [iV x1]) (rest := []) rfl xc10 (Lay_X4.tag (f0.ext (EB.tr E1))) (lw_V q2144 q2146 qs84 q129 q2147) hy_X4_isPerson rfl rfl (Nat.le_of_ble_eq_true rfl) (Nat.le_of_ble_eq_true rfl) (Nat.le_of_ble_eq_true rfl) (kkI (fun r6 m6 E6 hw => ?_))
  have hw := hw E6
  refine x_if_ne HE 18 dX4_waits_9 (by decide) (fun c9 => ?_) (fun c9 => ?_)
  · have hw := hw.1 c9
    refine x_aload_n HE 0 dX4_waits_18 rfl rfl ?_
    refine x_callV HE dX4_waits_19 rfl (fun l => k_X4_tellEvening (f0.ext (EB.tr (E1.tr E6))) l hw) (As := []) (rest := []) rfl xc10 (Lay_X4.tag (f0.ext (EB.tr (E1.tr E6)))) (lw_V q2222 q2224 qs94 q129 q2225) hy_X4_tellEvening rfl rfl (Nat.le_of_ble_eq_true rfl) (Nat.le_of_ble_eq_true rfl) (Nat.le_of_ble_eq_true rfl) (kkV (fun m19 E19 hw => ?_))
    have hw := hw E19
    refine x_aload_n HE 0 dX4_waits_22 rfl rfl ?_
    refine x_iload_n HE 1 dX4_waits_23 rfl rfl ?_
    refine x_callV HE dX4_waits_24 rfl (fun l => k_X4_waitOf (f0.ext (EB.tr (E1.tr (E6.tr E19)))) l hw) (As := [iV x1]) (rest := []) rfl xc10 (Lay_X4.tag (f0.ext (EB.tr (E1.tr (E6.tr E19))))) (lw_V q2246 q2248 qs99 q129 q2249) hy_X4_waitOf rfl rfl (Nat.le_of_ble_eq_true rfl) (Nat.le_of_ble_eq_true rfl) (Nat.le_of_ble_eq_true rfl) (kkI (fun r24 m24 E24 hw => ?_))
    have hw := hw E24
    exact x_iret HE hr dX4_waits_27 hw
  · have hw := hw.2 c9
    refine x_aload_n HE 0 dX4_waits_12 rfl rfl ?_
    refine x_iconst HE dX4_waits_13 (by decide) ?_
    refine x_callV HE dX4_waits_14 rfl (fun l => k_X4_no (f0.ext (EB.tr (E1.tr E6))) l hw) (As := [iV 1]) (rest := []) rfl xc10 (Lay_X4.tag (f0.ext (EB.tr (E1.tr E6)))) (lw_V q1962 q1964 qs56 q129 q1965) hy_X4_no rfl rfl (Nat.le_of_ble_eq_true rfl) (Nat.le_of_ble_eq_true rfl) (Nat.le_of_ble_eq_true rfl) (kkI (fun r14 m14 E14 hw => ?_))
    have hw := hw E14
    exact x_iret HE hr dX4_waits_17 hw
theorem k_X4_waits {G : GT} {x0 x1 : Int} {Q : Int → Hp → Prop} {h : Hp} (f0 : Lay_X4 h x0) (l : Launch) (hw : g_X4_waits x0 x1 Q h) : XM G l yX4_waits cX4_waits 2 (some .int) 7 166 [rV x0, iV x1] (QI Q) h :=
  XM.of (by decide) (Nat.le_of_ble_eq_true rfl) (fun X HE hr hn => w_X4_waits_0 HE hr f0 hw)
def g_X4_whom (x0 x1 : Int) (Q : Int → Hp → Prop) (h : Hp) : Prop :=
  g_X4_good x0 (fun m1 => Ext h m1 → (g_X4_isPerson x0 x1 (fun r6 m6 => Ext m1 m6 → (((r6 ≠ 0) → (g_X4_tellEvening x0 (fun m19 => Ext m6 m19 → (g_X4_its (x0 + 6) x1 6 (fun r29 m29 => Ext m19 m29 → (Q r29 m29)) m19)) m6)) ∧ ((r6 = 0) → (g_X4_no x0 1 (fun r14 m14 => Ext m6 m14 → (Q r14 m14)) m6)))) m1)) h
theorem w_X4_whom_0 {G : GT} {X : ET} {h0 : Hp} {x0 x1 : Int} (HE : XE G X cX4_whom 2 RX4 7 166 h0) (hr : XR X (some .int)) (f0 : Lay_X4 h0 x0) {Q : Int → Hp → Prop} {h : Hp} (hw : g_X4_whom x0 x1 Q h) : Wx G X h0 (QI Q) h 0 [some (rV x0), some (iV x1)] [] := by
  refine Wx.start (fun EB => ?_)
  unfold g_X4_whom at hw
  refine x_aload_n HE 0 dX4_whom_0 rfl rfl ?_
  refine x_callV HE dX4_whom_1 rfl (fun l => k_X4_good (f0.ext EB) l hw) (As := []) (rest := []) rfl xc10 (Lay_X4.tag (f0.ext EB)) (lw_V q1955 q1957 qs55 q129 q1958) hy_X4_good rfl rfl (Nat.le_of_ble_eq_true rfl) (Nat.le_of_ble_eq_true rfl) (Nat.le_of_ble_eq_true rfl) (kkV (fun m1 E1 hw => ?_))
  have hw := hw E1
  refine x_aload_n HE 0 dX4_whom_4 rfl rfl ?_
  refine x_iload_n HE 1 dX4_whom_5 rfl rfl ?_
  refine x_callV HE dX4_whom_6 rfl (fun l => k_X4_isPerson (f0.ext (EB.tr E1)) l hw) (As := [iV x1]) (rest := []) rfl xc10 (Lay_X4.tag (f0.ext (EB.tr E1))) (lw_V q2144 q2146 qs84 q129 q2147) hy_X4_isPerson rfl rfl (Nat.le_of_ble_eq_true rfl) (Nat.le_of_ble_eq_true rfl) (Nat.le_of_ble_eq_true rfl) (kkI (fun r6 m6 E6 hw => ?_))
  have hw := hw E6
  refine x_if_ne HE 18 dX4_whom_9 (by decide) (fun c9 => ?_) (fun c9 => ?_)
  · have hw := hw.1 c9
    refine x_aload_n HE 0 dX4_whom_18 rfl rfl ?_
    refine x_callV HE dX4_whom_19 rfl (fun l => k_X4_tellEvening (f0.ext (EB.tr (E1.tr E6))) l hw) (As := []) (rest := []) rfl xc10 (Lay_X4.tag (f0.ext (EB.tr (E1.tr E6)))) (lw_V q2222 q2224 qs94 q129 q2225) hy_X4_tellEvening rfl rfl (Nat.le_of_ble_eq_true rfl) (Nat.le_of_ble_eq_true rfl) (Nat.le_of_ble_eq_true rfl) (kkV (fun m19 E19 hw => ?_))
    have hw := hw E19
    refine x_aload_n HE 0 dX4_whom_22 rfl rfl ?_
    refine x_gR HE dX4_whom_23 fd_X4_18 q1855 (Or.inl rfl) (Lay_X4.tag (f0.ext (EB.tr (E1.tr (E6.tr E19))))) (Lay_X4_18 (f0.ext (EB.tr (E1.tr (E6.tr E19))))).1 ?_
    refine x_iload_n HE 1 dX4_whom_26 rfl rfl ?_
    refine x_bipush HE dX4_whom_27 (by decide) ?_
    refine x_callS HE dX4_whom_29 rfl (fun l => k_X4_its ⟨(Lay_X4_18 (f0.ext (EB.tr (E1.tr (E6.tr E19))))).2.1, (Lay_X4_18 (f0.ext (EB.tr (E1.tr (E6.tr E19))))).2.2⟩ l hw) (As := [rV (x0 + 6), iV x1, iV 6]) (rest := []) rfl (lw_S q2168 q2169 q129 q2170) hy_X4_its.2 rfl rfl (Nat.le_of_ble_eq_true rfl) (Nat.le_of_ble_eq_true rfl) (Nat.le_of_ble_eq_true rfl) (kkI (fun r29 m29 E29 hw => ?_))
    have hw := hw E29
    exact x_iret HE hr dX4_whom_32 hw
  · have hw := hw.2 c9
    refine x_aload_n HE 0 dX4_whom_12 rfl rfl ?_
    refine x_iconst HE dX4_whom_13 (by decide) ?_
    refine x_callV HE dX4_whom_14 rfl (fun l => k_X4_no (f0.ext (EB.tr (E1.tr E6))) l hw) (As := [iV 1]) (rest := []) rfl xc10 (Lay_X4.tag (f0.ext (EB.tr (E1.tr E6)))) (lw_V q1962 q1964 qs56 q129 q1965) hy_X4_no rfl rfl (Nat.le_of_ble_eq_true rfl) (Nat.le_of_ble_eq_true rfl) (Nat.le_of_ble_eq_true rfl) (kkI (fun r14 m14 E14 hw => ?_))
    have hw := hw E14
    exact x_iret HE hr dX4_whom_17 hw
theorem k_X4_whom {G : GT} {x0 x1 : Int} {Q : Int → Hp → Prop} {h : Hp} (f0 : Lay_X4 h x0) (l : Launch) (hw : g_X4_whom x0 x1 Q h) : XM G l yX4_whom cX4_whom 2 (some .int) 7 166 [rV x0, iV x1] (QI Q) h :=
  XM.of (by decide) (Nat.le_of_ble_eq_true rfl) (fun X HE hr hn => w_X4_whom_0 HE hr f0 hw)
def g_X4_has (x0 x1 : Int) (Q : Int → Hp → Prop) (h : Hp) : Prop :=
  g_X4_good x0 (fun m1 => Ext h m1 → (g_X4_isPerson x0 x1 (fun r6 m6 => Ext m1 m6 → (((r6 ≠ 0) → (g_X4_tellEvening x0 (fun m19 => Ext m6 m19 → (g_X4_its (x0 + 6) x1 5 (fun r28 m28 => Ext m19 m28 → (Q r28 m28)) m19)) m6)) ∧ ((r6 = 0) → (g_X4_no x0 1 (fun r14 m14 => Ext m6 m14 → (Q r14 m14)) m6)))) m1)) h
theorem w_X4_has_0 {G : GT} {X : ET} {h0 : Hp} {x0 x1 : Int} (HE : XE G X cX4_has 2 RX4 7 166 h0) (hr : XR X (some .int)) (f0 : Lay_X4 h0 x0) {Q : Int → Hp → Prop} {h : Hp} (hw : g_X4_has x0 x1 Q h) : Wx G X h0 (QI Q) h 0 [some (rV x0), some (iV x1)] [] := by
  refine Wx.start (fun EB => ?_)
  unfold g_X4_has at hw
  refine x_aload_n HE 0 dX4_has_0 rfl rfl ?_
  refine x_callV HE dX4_has_1 rfl (fun l => k_X4_good (f0.ext EB) l hw) (As := []) (rest := []) rfl xc10 (Lay_X4.tag (f0.ext EB)) (lw_V q1955 q1957 qs55 q129 q1958) hy_X4_good rfl rfl (Nat.le_of_ble_eq_true rfl) (Nat.le_of_ble_eq_true rfl) (Nat.le_of_ble_eq_true rfl) (kkV (fun m1 E1 hw => ?_))
  have hw := hw E1
  refine x_aload_n HE 0 dX4_has_4 rfl rfl ?_
  refine x_iload_n HE 1 dX4_has_5 rfl rfl ?_
  refine x_callV HE dX4_has_6 rfl (fun l => k_X4_isPerson (f0.ext (EB.tr E1)) l hw) (As := [iV x1]) (rest := []) rfl xc10 (Lay_X4.tag (f0.ext (EB.tr E1))) (lw_V q2144 q2146 qs84 q129 q2147) hy_X4_isPerson rfl rfl (Nat.le_of_ble_eq_true rfl) (Nat.le_of_ble_eq_true rfl) (Nat.le_of_ble_eq_true rfl) (kkI (fun r6 m6 E6 hw => ?_))
  have hw := hw E6
  refine x_if_ne HE 18 dX4_has_9 (by decide) (fun c9 => ?_) (fun c9 => ?_)
  · have hw := hw.1 c9
    refine x_aload_n HE 0 dX4_has_18 rfl rfl ?_
    refine x_callV HE dX4_has_19 rfl (fun l => k_X4_tellEvening (f0.ext (EB.tr (E1.tr E6))) l hw) (As := []) (rest := []) rfl xc10 (Lay_X4.tag (f0.ext (EB.tr (E1.tr E6)))) (lw_V q2222 q2224 qs94 q129 q2225) hy_X4_tellEvening rfl rfl (Nat.le_of_ble_eq_true rfl) (Nat.le_of_ble_eq_true rfl) (Nat.le_of_ble_eq_true rfl) (kkV (fun m19 E19 hw => ?_))
    have hw := hw E19
    refine x_aload_n HE 0 dX4_has_22 rfl rfl ?_
    refine x_gR HE dX4_has_23 fd_X4_18 q1855 (Or.inl rfl) (Lay_X4.tag (f0.ext (EB.tr (E1.tr (E6.tr E19))))) (Lay_X4_18 (f0.ext (EB.tr (E1.tr (E6.tr E19))))).1 ?_
    refine x_iload_n HE 1 dX4_has_26 rfl rfl ?_
    refine x_iconst HE dX4_has_27 (by decide) ?_
    refine x_callS HE dX4_has_28 rfl (fun l => k_X4_its ⟨(Lay_X4_18 (f0.ext (EB.tr (E1.tr (E6.tr E19))))).2.1, (Lay_X4_18 (f0.ext (EB.tr (E1.tr (E6.tr E19))))).2.2⟩ l hw) (As := [rV (x0 + 6), iV x1, iV 5]) (rest := []) rfl (lw_S q2168 q2169 q129 q2170) hy_X4_its.2 rfl rfl (Nat.le_of_ble_eq_true rfl) (Nat.le_of_ble_eq_true rfl) (Nat.le_of_ble_eq_true rfl) (kkI (fun r28 m28 E28 hw => ?_))
    have hw := hw E28
    exact x_iret HE hr dX4_has_31 hw
  · have hw := hw.2 c9
    refine x_aload_n HE 0 dX4_has_12 rfl rfl ?_
    refine x_iconst HE dX4_has_13 (by decide) ?_
    refine x_callV HE dX4_has_14 rfl (fun l => k_X4_no (f0.ext (EB.tr (E1.tr E6))) l hw) (As := [iV 1]) (rest := []) rfl xc10 (Lay_X4.tag (f0.ext (EB.tr (E1.tr E6)))) (lw_V q1962 q1964 qs56 q129 q1965) hy_X4_no rfl rfl (Nat.le_of_ble_eq_true rfl) (Nat.le_of_ble_eq_true rfl) (Nat.le_of_ble_eq_true rfl) (kkI (fun r14 m14 E14 hw => ?_))
    have hw := hw E14
    exact x_iret HE hr dX4_has_17 hw
theorem k_X4_has {G : GT} {x0 x1 : Int} {Q : Int → Hp → Prop} {h : Hp} (f0 : Lay_X4 h x0) (l : Launch) (hw : g_X4_has x0 x1 Q h) : XM G l yX4_has cX4_has 2 (some .int) 7 166 [rV x0, iV x1] (QI Q) h :=
  XM.of (by decide) (Nat.le_of_ble_eq_true rfl) (fun X HE hr hn => w_X4_has_0 HE hr f0 hw)
def g_X4_isBehind_b40 (x0 x1 x2 : Int) (Q : Int → Hp → Prop) (s0 : Int) (h : Hp) : Prop :=
  (s0 = 0 ∨ s0 = 1) ∧ Q s0 h
theorem w_X4_isBehind_40 {G : GT} {X : ET} {h0 : Hp} {x0 x1 x2 : Int} (HE : XE G X cX4_isBehind 3 RX4 1 22 h0) (hr : XR X (some .boolean)) (f0 : Lay_X4 h0 x0) {Q : Int → Hp → Prop} {s0 : Int} {h : Hp} (hw : g_X4_isBehind_b40 x0 x1 x2 Q s0 h) : Wx G X h0 (QI Q) h 40 [some (rV x0), some (iV x1), some (iV x2)] [iV s0] := by
  refine Wx.start (fun EB => ?_)
  unfold g_X4_isBehind_b40 at hw
  exact x_zret HE hr dX4_isBehind_40 hw.1 hw.2
def g_X4_isBehind_b39 (x0 x1 x2 : Int) (Q : Int → Hp → Prop) (h : Hp) : Prop :=
  g_X4_isBehind_b40 x0 x1 x2 Q 0 h
theorem w_X4_isBehind_39 {G : GT} {X : ET} {h0 : Hp} {x0 x1 x2 : Int} (HE : XE G X cX4_isBehind 3 RX4 1 22 h0) (hr : XR X (some .boolean)) (f0 : Lay_X4 h0 x0) {Q : Int → Hp → Prop} {h : Hp} (hw : g_X4_isBehind_b39 x0 x1 x2 Q  h) : Wx G X h0 (QI Q) h 39 [some (rV x0), some (iV x1), some (iV x2)] [] := by
  refine Wx.start (fun EB => ?_)
  unfold g_X4_isBehind_b39 at hw
  refine x_iconst HE dX4_isBehind_39 (by decide) ?_
  exact w_X4_isBehind_40 HE hr f0 hw
def g_X4_isBehind_b35 (x0 x1 x2 : Int) (Q : Int → Hp → Prop) (h : Hp) : Prop :=
  g_X4_isBehind_b40 x0 x1 x2 Q 1 h
theorem w_X4_isBehind_35 {G : GT} {X : ET} {h0 : Hp} {x0 x1 x2 : Int} (HE : XE G X cX4_isBehind 3 RX4 1 22 h0) (hr : XR X (some .boolean)) (f0 : Lay_X4 h0 x0) {Q : Int → Hp → Prop} {h : Hp} (hw : g_X4_isBehind_b35 x0 x1 x2 Q  h) : Wx G X h0 (QI Q) h 35 [some (rV x0), some (iV x1), some (iV x2)] [] := by
  refine Wx.start (fun EB => ?_)
  unfold g_X4_isBehind_b35 at hw
  refine x_iconst HE dX4_isBehind_35 (by decide) ?_
  refine x_goto HE 40 dX4_isBehind_36 (by decide) ?_
  exact w_X4_isBehind_40 HE hr f0 hw
def g_X4_isBehind (x0 x1 x2 : Int) (Q : Int → Hp → Prop) (h : Hp) : Prop :=
  g_X4_man x0 x1 2 (fun r3 m3 => Ext h m3 → (g_X4_man x0 x2 2 (fun r9 m9 => Ext m3 m9 → (((r9 < r3) → (g_X4_isBehind_b35 x0 x1 x2 Q m9)) ∧ ((r3 ≤ r9) → (g_X4_man x0 x1 2 (fun r18 m18 => Ext m9 m18 → (g_X4_man x0 x2 2 (fun r24 m24 => Ext m18 m24 → (((r18 ≠ r24) → (g_X4_isBehind_b39 x0 x1 x2 Q m24)) ∧ ((r18 = r24) → (((x1 ≤ x2) → (g_X4_isBehind_b39 x0 x1 x2 Q m24)) ∧ ((x2 < x1) → (g_X4_isBehind_b35 x0 x1 x2 Q m24)))))) m18)) m9)))) m3)) h
theorem w_X4_isBehind_0 {G : GT} {X : ET} {h0 : Hp} {x0 x1 x2 : Int} (HE : XE G X cX4_isBehind 3 RX4 1 22 h0) (hr : XR X (some .boolean)) (f0 : Lay_X4 h0 x0) {Q : Int → Hp → Prop} {h : Hp} (hw : g_X4_isBehind x0 x1 x2 Q h) : Wx G X h0 (QI Q) h 0 [some (rV x0), some (iV x1), some (iV x2)] [] := by
  refine Wx.start (fun EB => ?_)
  unfold g_X4_isBehind at hw
  refine x_aload_n HE 0 dX4_isBehind_0 rfl rfl ?_
  refine x_iload_n HE 1 dX4_isBehind_1 rfl rfl ?_
  refine x_iconst HE dX4_isBehind_2 (by decide) ?_
  refine x_callV HE dX4_isBehind_3 rfl (fun l => k_X4_man (f0.ext EB) l hw) (As := [iV x1, iV 2]) (rest := []) rfl xc10 (Lay_X4.tag (f0.ext EB)) (lw_V q2124 q2126 qs82 q129 q2127) hy_X4_man rfl rfl (Nat.le_of_ble_eq_true rfl) (Nat.le_of_ble_eq_true rfl) (Nat.le_of_ble_eq_true rfl) (kkI (fun r3 m3 E3 hw => ?_))
  have hw := hw E3
  refine x_aload_n HE 0 dX4_isBehind_6 rfl rfl ?_
  refine x_iload_n HE 2 dX4_isBehind_7 rfl rfl ?_
  refine x_iconst HE dX4_isBehind_8 (by decide) ?_
  refine x_callV HE dX4_isBehind_9 rfl (fun l => k_X4_man (f0.ext (EB.tr E3)) l hw) (As := [iV x2, iV 2]) (rest := [iV r3]) rfl xc10 (Lay_X4.tag (f0.ext (EB.tr E3))) (lw_V q2124 q2126 qs82 q129 q2127) hy_X4_man rfl rfl (Nat.le_of_ble_eq_true rfl) (Nat.le_of_ble_eq_true rfl) (Nat.le_of_ble_eq_true rfl) (kkI (fun r9 m9 E9 hw => ?_))
  have hw := hw E9
  refine x_ic_gt HE 35 dX4_isBehind_12 (by decide) (fun c12 => ?_) (fun c12 => ?_)
  · have hw := hw.1 c12
    exact w_X4_isBehind_35 HE hr f0 hw
  · have hw := hw.2 c12
    refine x_aload_n HE 0 dX4_isBehind_15 rfl rfl ?_
    refine x_iload_n HE 1 dX4_isBehind_16 rfl rfl ?_
    refine x_iconst HE dX4_isBehind_17 (by decide) ?_
    refine x_callV HE dX4_isBehind_18 rfl (fun l => k_X4_man (f0.ext (EB.tr (E3.tr E9))) l hw) (As := [iV x1, iV 2]) (rest := []) rfl xc10 (Lay_X4.tag (f0.ext (EB.tr (E3.tr E9)))) (lw_V q2124 q2126 qs82 q129 q2127) hy_X4_man rfl rfl (Nat.le_of_ble_eq_true rfl) (Nat.le_of_ble_eq_true rfl) (Nat.le_of_ble_eq_true rfl) (kkI (fun r18 m18 E18 hw => ?_))
    have hw := hw E18
    refine x_aload_n HE 0 dX4_isBehind_21 rfl rfl ?_
    refine x_iload_n HE 2 dX4_isBehind_22 rfl rfl ?_
    refine x_iconst HE dX4_isBehind_23 (by decide) ?_
    refine x_callV HE dX4_isBehind_24 rfl (fun l => k_X4_man (f0.ext (EB.tr (E3.tr (E9.tr E18)))) l hw) (As := [iV x2, iV 2]) (rest := [iV r18]) rfl xc10 (Lay_X4.tag (f0.ext (EB.tr (E3.tr (E9.tr E18))))) (lw_V q2124 q2126 qs82 q129 q2127) hy_X4_man rfl rfl (Nat.le_of_ble_eq_true rfl) (Nat.le_of_ble_eq_true rfl) (Nat.le_of_ble_eq_true rfl) (kkI (fun r24 m24 E24 hw => ?_))
    have hw := hw E24
    refine x_ic_ne HE 39 dX4_isBehind_27 (by decide) (fun c27 => ?_) (fun c27 => ?_)
    · have hw := hw.1 c27
      exact w_X4_isBehind_39 HE hr f0 hw
    · have hw := hw.2 c27
      refine x_iload_n HE 1 dX4_isBehind_30 rfl rfl ?_
      refine x_iload_n HE 2 dX4_isBehind_31 rfl rfl ?_
      refine x_ic_le HE 39 dX4_isBehind_32 (by decide) (fun c32 => ?_) (fun c32 => ?_)
      · have hw := hw.1 c32
        exact w_X4_isBehind_39 HE hr f0 hw
      · have hw := hw.2 c32
        exact w_X4_isBehind_35 HE hr f0 hw
theorem k_X4_isBehind {G : GT} {x0 x1 x2 : Int} {Q : Int → Hp → Prop} {h : Hp} (f0 : Lay_X4 h x0) (l : Launch) (hw : g_X4_isBehind x0 x1 x2 Q h) : XM G l yX4_isBehind cX4_isBehind 3 (some .boolean) 1 22 [rV x0, iV x1, iV x2] (QI Q) h :=
  XM.of (by decide) (Nat.le_of_ble_eq_true rfl) (fun X HE hr hn => w_X4_isBehind_0 HE hr f0 hw)
def g_X4_passedOf_b120 (x0 x1 : Int) (Q : Int → Hp → Prop) (l2 : Int) (h : Hp) : Prop :=
  Q l2 h
theorem w_X4_passedOf_120 {G : GT} {X : ET} {h0 : Hp} {x0 x1 : Int} (HE : XE G X cX4_passedOf 7 RX4 2 44 h0) (hr : XR X (some .int)) (f0 : Lay_X4 h0 x0) {Q : Int → Hp → Prop} {l2 : Int} {h : Hp} (hw : g_X4_passedOf_b120 x0 x1 Q l2 h) : Wx G X h0 (QI Q) h 120 [some (rV x0), some (iV x1), some (iV l2), none, none, none, none] [] := by
  refine Wx.start (fun EB => ?_)
  unfold g_X4_passedOf_b120 at hw
  refine x_iload_n HE 2 dX4_passedOf_120 rfl rfl ?_
  exact x_iret HE hr dX4_passedOf_121 hw
def g_X4_passedOf_b114 (x0 x1 : Int) (Q : Int → Hp → Prop) (K4 : Int → Int → Hp → Prop) (l2 l3 : Int) (h : Hp) : Prop :=
  (i32 (l3 + 1)) ∧ (∀ y114 : Int, y114 = l3 + 1 → (K4 l2 y114 h))
theorem w_X4_passedOf_114 {G : GT} {X : ET} {h0 : Hp} {x0 x1 : Int} (HE : XE G X cX4_passedOf 7 RX4 2 44 h0) (hr : XR X (some .int)) (f0 : Lay_X4 h0 x0) {Q : Int → Hp → Prop} {K4 : Int → Int → Hp → Prop} (hK4 : ∀ (l2 l3 : Int) (h : Hp), K4 l2 l3 h → Wx G X h0 (QI Q) h 4 [some (rV x0), some (iV x1), some (iV l2), some (iV l3), none, none, none] []) {l2 l3 : Int} {h : Hp} (hw : g_X4_passedOf_b114 x0 x1 Q K4 l2 l3 h) : Wx G X h0 (QI Q) h 114 [some (rV x0), some (iV x1), some (iV l2), some (iV l3), none, none, none] [] := by
  refine Wx.start (fun EB => ?_)
  unfold g_X4_passedOf_b114 at hw
  obtain ⟨v114, hw⟩ := hw
  refine x_iincN HE (fun y114 => [some (rV x0), some (iV x1), some (iV l2), some (iV y114), none, none, none]) dX4_passedOf_114 rfl v114 (Nat.le_of_ble_eq_true rfl) (fun _ => rfl) (fun y114 ey114 => ?_)
  have hw := hw y114 ey114
  refine x_goto HE 4 dX4_passedOf_117 (by decide) ?_
  exact hK4 _ _ _ hw
def g_X4_passedOf_b79 (x0 x1 : Int) (Q : Int → Hp → Prop) (K4 : Int → Int → Hp → Prop) (l2 l3 l4 l5 s0 : Int) (h : Hp) : Prop :=
  g_X4_isBehind x0 l4 x1 (fun r85 m85 => Ext h m85 → (((r85 = 0) → (g_X4_passedOf_b114 x0 x1 Q K4 l2 l3 m85)) ∧ ((r85 ≠ 0) → (g_X4_man x0 x1 2 (fun r96 m96 => Ext m85 m96 → (((l5 < r96) → (g_X4_passedOf_b114 x0 x1 Q K4 l2 l3 m96)) ∧ ((r96 ≤ l5) → (((s0 ≠ 0) → (g_X4_passedOf_b114 x0 x1 Q K4 l2 l3 m96)) ∧ ((s0 = 0) → (∀ y113 : Int, y113 = (bOr l2 (bShl 1 l4)) → (g_X4_passedOf_b114 x0 x1 Q K4 y113 l3 m96))))))) m85)))) h
theorem w_X4_passedOf_79 {G : GT} {X : ET} {h0 : Hp} {x0 x1 : Int} (HE : XE G X cX4_passedOf 7 RX4 2 44 h0) (hr : XR X (some .int)) (f0 : Lay_X4 h0 x0) {Q : Int → Hp → Prop} {K4 : Int → Int → Hp → Prop} (hK4 : ∀ (l2 l3 : Int) (h : Hp), K4 l2 l3 h → Wx G X h0 (QI Q) h 4 [some (rV x0), some (iV x1), some (iV l2), some (iV l3), none, none, none] []) {l2 l3 l4 l5 s0 : Int} {h : Hp} (hw : g_X4_passedOf_b79 x0 x1 Q K4 l2 l3 l4 l5 s0 h) : Wx G X h0 (QI Q) h 79 [some (rV x0), some (iV x1), some (iV l2), some (iV l3), some (iV l4), some (iV l5), none] [iV s0] := by
  refine Wx.start (fun EB => ?_)
  unfold g_X4_passedOf_b79 at hw
  refine x_istore HE (lo' := [some (rV x0), some (iV x1), some (iV l2), some (iV l3), some (iV l4), some (iV l5), some (iV s0)]) dX4_passedOf_79 (Nat.le_of_ble_eq_true rfl) rfl ?_
  refine x_aload_n HE 0 dX4_passedOf_81 rfl rfl ?_
  refine x_iload HE dX4_passedOf_82 rfl ?_
  refine x_iload_n HE 1 dX4_passedOf_84 rfl rfl ?_
  refine x_callV HE dX4_passedOf_85 rfl (fun l => k_X4_isBehind (f0.ext EB) l hw) (As := [iV l4, iV x1]) (rest := []) rfl xc10 (Lay_X4.tag (f0.ext EB)) (lw_V q2266 q2268 qs101 q129 q2269) hy_X4_isBehind rfl rfl (Nat.le_of_ble_eq_true rfl) (Nat.le_of_ble_eq_true rfl) (Nat.le_of_ble_eq_true rfl) (kkI (fun r85 m85 E85 hw => ?_))
  have hw := hw E85
  refine x_if_eq HE 114 dX4_passedOf_88 (by decide) (fun c88 => ?_) (fun c88 => ?_)
  · have hw := hw.1 c88
    refine Wx.mask [true, true, true, true, false, false, false] (lo2 := [some (rV x0), some (iV x1), some (iV l2), some (iV l3), none, none, none]) rfl ?_
    exact w_X4_passedOf_114 HE hr f0 hK4 hw
  · have hw := hw.2 c88
    refine x_iload HE dX4_passedOf_91 rfl ?_
    refine x_aload_n HE 0 dX4_passedOf_93 rfl rfl ?_
    refine x_iload_n HE 1 dX4_passedOf_94 rfl rfl ?_
    refine x_iconst HE dX4_passedOf_95 (by decide) ?_
    refine x_callV HE dX4_passedOf_96 rfl (fun l => k_X4_man (f0.ext (EB.tr E85)) l hw) (As := [iV x1, iV 2]) (rest := [iV l5]) rfl xc10 (Lay_X4.tag (f0.ext (EB.tr E85))) (lw_V q2124 q2126 qs82 q129 q2127) hy_X4_man rfl rfl (Nat.le_of_ble_eq_true rfl) (Nat.le_of_ble_eq_true rfl) (Nat.le_of_ble_eq_true rfl) (kkI (fun r96 m96 E96 hw => ?_))
    have hw := hw E96
    refine x_ic_lt HE 114 dX4_passedOf_99 (by decide) (fun c99 => ?_) (fun c99 => ?_)
    · have hw := hw.1 c99
      refine Wx.mask [true, true, true, true, false, false, false] (lo2 := [some (rV x0), some (iV x1), some (iV l2), some (iV l3), none, none, none]) rfl ?_
      exact w_X4_passedOf_114 HE hr f0 hK4 hw
    · have hw := hw.2 c99
      refine x_iload HE dX4_passedOf_102 rfl ?_
      refine x_if_ne HE 114 dX4_passedOf_104 (by decide) (fun c104 => ?_) (fun c104 => ?_)
      · have hw := hw.1 c104
        refine Wx.mask [true, true, true, true, false, false, false] (lo2 := [some (rV x0), some (iV x1), some (iV l2), some (iV l3), none, none, none]) rfl ?_
        exact w_X4_passedOf_114 HE hr f0 hK4 hw
      · have hw := hw.2 c104
        refine x_iload_n HE 2 dX4_passedOf_107 rfl rfl ?_
        refine x_iconst HE dX4_passedOf_108 (by decide) ?_
        refine x_iload HE dX4_passedOf_109 rfl ?_
        refine x_ishl HE dX4_passedOf_111 ?_
        refine x_ior HE dX4_passedOf_112 ?_
        refine x_istore_nN HE 2 (fun y113 => [some (rV x0), some (iV x1), some (iV y113), some (iV l3), some (iV l4), some (iV l5), some (iV s0)]) dX4_passedOf_113 rfl (Nat.le_of_ble_eq_true rfl) (fun _ => rfl) (fun y113 ey113 => ?_)
        have hw := hw y113 ey113
        refine Wx.mask [true, true, true, true, false, false, false] (lo2 := [some (rV x0), some (iV x1), some (iV y113), some (iV l3), none, none, none]) rfl ?_
        exact w_X4_passedOf_114 HE hr f0 hK4 hw
def g_X4_passedOf_b78 (x0 x1 : Int) (Q : Int → Hp → Prop) (K4 : Int → Int → Hp → Prop) (l2 l3 l4 l5 : Int) (h : Hp) : Prop :=
  g_X4_passedOf_b79 x0 x1 Q K4 l2 l3 l4 l5 0 h
theorem w_X4_passedOf_78 {G : GT} {X : ET} {h0 : Hp} {x0 x1 : Int} (HE : XE G X cX4_passedOf 7 RX4 2 44 h0) (hr : XR X (some .int)) (f0 : Lay_X4 h0 x0) {Q : Int → Hp → Prop} {K4 : Int → Int → Hp → Prop} (hK4 : ∀ (l2 l3 : Int) (h : Hp), K4 l2 l3 h → Wx G X h0 (QI Q) h 4 [some (rV x0), some (iV x1), some (iV l2), some (iV l3), none, none, none] []) {l2 l3 l4 l5 : Int} {h : Hp} (hw : g_X4_passedOf_b78 x0 x1 Q K4 l2 l3 l4 l5 h) : Wx G X h0 (QI Q) h 78 [some (rV x0), some (iV x1), some (iV l2), some (iV l3), some (iV l4), some (iV l5), none] [] := by
  refine Wx.start (fun EB => ?_)
  unfold g_X4_passedOf_b78 at hw
  refine x_iconst HE dX4_passedOf_78 (by decide) ?_
  exact w_X4_passedOf_79 HE hr f0 hK4 hw
def g_X4_passedOf_b30 (x0 x1 : Int) (Q : Int → Hp → Prop) (l2 : Int) (h : Hp) : Prop :=
  Q l2 h
theorem w_X4_passedOf_30 {G : GT} {X : ET} {h0 : Hp} {x0 x1 : Int} (HE : XE G X cX4_passedOf 7 RX4 2 44 h0) (hr : XR X (some .int)) (f0 : Lay_X4 h0 x0) {Q : Int → Hp → Prop} {l2 : Int} {h : Hp} (hw : g_X4_passedOf_b30 x0 x1 Q l2 h) : Wx G X h0 (QI Q) h 30 [some (rV x0), some (iV x1), some (iV l2), none, none, none, none] [] := by
  refine Wx.start (fun EB => ?_)
  unfold g_X4_passedOf_b30 at hw
  refine x_iload_n HE 2 dX4_passedOf_30 rfl rfl ?_
  exact x_iret HE hr dX4_passedOf_31 hw
def g_X4_passedOf_L4 (x0 x1 : Int) (Q : Int → Hp → Prop) (K4 : Int → Int → Hp → Prop) (l2 l3 : Int) (h : Hp) : Prop :=
  (((hA h (x0 + 6) 1) ≤ l3) → (g_X4_passedOf_b120 x0 x1 Q l2 h)) ∧ ((l3 < (hA h (x0 + 6) 1)) → ((i32 (2 + l3)) ∧ (((0 : Int) ≤ (2 + l3) ∧ (2 + l3) < 108) ∧ (∀ y22 : Int, y22 = (hA h (x0 + 6) (2 + l3)) → (((y22 ≠ x1) → (g_X4_its (x0 + 6) y22 4 (fun r39 m39 => Ext h m39 → (g_X4_its (x0 + 6) x1 7 (fun r51 m51 => Ext m39 m51 → (((r51 = (-2)) → (g_X4_passedOf_b78 x0 x1 Q K4 l2 l3 y22 r39 m51)) ∧ ((r51 ≠ (-2)) → (g_X4_its (x0 + 6) x1 7 (fun r68 m68 => Ext m51 m68 → (((r39 < r68) → (g_X4_passedOf_b78 x0 x1 Q K4 l2 l3 y22 r39 m68)) ∧ ((r68 ≤ r39) → (g_X4_passedOf_b79 x0 x1 Q K4 l2 l3 y22 r39 1 m68)))) m51)))) m39)) h)) ∧ ((y22 = x1) → (g_X4_passedOf_b30 x0 x1 Q l2 h)))))))
theorem w_X4_passedOf_4 {G : GT} {X : ET} {h0 : Hp} {x0 x1 : Int} (HE : XE G X cX4_passedOf 7 RX4 2 44 h0) (hr : XR X (some .int)) (f0 : Lay_X4 h0 x0) {Q : Int → Hp → Prop} {K4 : Int → Int → Hp → Prop} (hK4 : ∀ (l2 l3 : Int) (h : Hp), K4 l2 l3 h → Wx G X h0 (QI Q) h 4 [some (rV x0), some (iV x1), some (iV l2), some (iV l3), none, none, none] []) {l2 l3 : Int} {h : Hp} (hw : g_X4_passedOf_L4 x0 x1 Q K4 l2 l3 h) : Wx G X h0 (QI Q) h 4 [some (rV x0), some (iV x1), some (iV l2), some (iV l3), none, none, none] [] := by
  refine Wx.start (fun EB => ?_)
  unfold g_X4_passedOf_L4 at hw
  refine x_iload_n HE 3 dX4_passedOf_4 rfl rfl ?_
  refine x_aload_n HE 0 dX4_passedOf_5 rfl rfl ?_
  refine x_gR HE dX4_passedOf_6 fd_X4_18 q1855 (Or.inl rfl) (Lay_X4.tag (f0.ext EB)) (Lay_X4_18 (f0.ext EB)).1 ?_
  refine x_iconst HE dX4_passedOf_9 (by decide) ?_
  refine x_iald HE dX4_passedOf_10 (t := 1) (by decide) ((Lay_X4_18 (f0.ext EB)).2.1) (ix_of ((Lay_X4_18 (f0.ext EB)).2.2) (by decide)) rfl ?_
  refine x_ic_ge HE 120 dX4_passedOf_11 (by decide) (fun c11 => ?_) (fun c11 => ?_)
  · have hw := hw.1 c11
    refine Wx.mask [true, true, true, false, true, true, true] (lo2 := [some (rV x0), some (iV x1), some (iV l2), none, none, none, none]) rfl ?_
    exact w_X4_passedOf_120 HE hr f0 hw
  · have hw := hw.2 c11
    refine x_aload_n HE 0 dX4_passedOf_14 rfl rfl ?_
    refine x_gR HE dX4_passedOf_15 fd_X4_18 q1855 (Or.inl rfl) (Lay_X4.tag (f0.ext EB)) (Lay_X4_18 (f0.ext EB)).1 ?_
    refine x_iconst HE dX4_passedOf_18 (by decide) ?_
    refine x_iload_n HE 3 dX4_passedOf_19 rfl rfl ?_
    obtain ⟨v20, hw⟩ := hw
    refine x_iadd HE dX4_passedOf_20 v20 ?_
    obtain ⟨i21, hw⟩ := hw
    refine x_iald HE dX4_passedOf_21 (t := 1) (by decide) ((Lay_X4_18 (f0.ext EB)).2.1) (ix_of ((Lay_X4_18 (f0.ext EB)).2.2) i21) rfl ?_
    refine x_istoreN HE (fun y22 => [some (rV x0), some (iV x1), some (iV l2), some (iV l3), some (iV y22), none, none]) dX4_passedOf_22 (Nat.le_of_ble_eq_true rfl) (fun _ => rfl) (fun y22 ey22 => ?_)
    have hw := hw y22 ey22
    refine x_iload HE dX4_passedOf_24 rfl ?_
    refine x_iload_n HE 1 dX4_passedOf_26 rfl rfl ?_
    refine x_ic_ne HE 32 dX4_passedOf_27 (by decide) (fun c27 => ?_) (fun c27 => ?_)
    · have hw := hw.1 c27
      refine x_aload_n HE 0 dX4_passedOf_32 rfl rfl ?_
      refine x_gR HE dX4_passedOf_33 fd_X4_18 q1855 (Or.inl rfl) (Lay_X4.tag (f0.ext EB)) (Lay_X4_18 (f0.ext EB)).1 ?_
      refine x_iload HE dX4_passedOf_36 rfl ?_
      refine x_iconst HE dX4_passedOf_38 (by decide) ?_
      refine x_callS HE dX4_passedOf_39 rfl (fun l => k_X4_its ⟨(Lay_X4_18 (f0.ext EB)).2.1, (Lay_X4_18 (f0.ext EB)).2.2⟩ l hw) (As := [rV (x0 + 6), iV y22, iV 4]) (rest := []) rfl (lw_S q2168 q2169 q129 q2170) hy_X4_its.2 rfl rfl (Nat.le_of_ble_eq_true rfl) (Nat.le_of_ble_eq_true rfl) (Nat.le_of_ble_eq_true rfl) (kkI (fun r39 m39 E39 hw => ?_))
      have hw := hw E39
      refine x_istore HE (lo' := [some (rV x0), some (iV x1), some (iV l2), some (iV l3), some (iV y22), some (iV r39), none]) dX4_passedOf_42 (Nat.le_of_ble_eq_true rfl) rfl ?_
      refine x_aload_n HE 0 dX4_passedOf_44 rfl rfl ?_
      refine x_gR HE dX4_passedOf_45 fd_X4_18 q1855 (Or.inl rfl) (Lay_X4.tag (f0.ext (EB.tr E39))) (Lay_X4_18 (f0.ext (EB.tr E39))).1 ?_
      refine x_iload_n HE 1 dX4_passedOf_48 rfl rfl ?_
      refine x_bipush HE dX4_passedOf_49 (by decide) ?_
      refine x_callS HE dX4_passedOf_51 rfl (fun l => k_X4_its ⟨(Lay_X4_18 (f0.ext (EB.tr E39))).2.1, (Lay_X4_18 (f0.ext (EB.tr E39))).2.2⟩ l hw) (As := [rV (x0 + 6), iV x1, iV 7]) (rest := []) rfl (lw_S q2168 q2169 q129 q2170) hy_X4_its.2 rfl rfl (Nat.le_of_ble_eq_true rfl) (Nat.le_of_ble_eq_true rfl) (Nat.le_of_ble_eq_true rfl) (kkI (fun r51 m51 E51 hw => ?_))
      have hw := hw E51
      refine x_bipush HE dX4_passedOf_54 (by decide) ?_
      refine x_ic_eq HE 78 dX4_passedOf_56 (by decide) (fun c56 => ?_) (fun c56 => ?_)
      · have hw := hw.1 c56
        exact w_X4_passedOf_78 HE hr f0 hK4 hw
      · have hw := hw.2 c56
        refine x_iload HE dX4_passedOf_59 rfl ?_
        refine x_aload_n HE 0 dX4_passedOf_61 rfl rfl ?_
        refine x_gR HE dX4_passedOf_62 fd_X4_18 q1855 (Or.inl rfl) (Lay_X4.tag (f0.ext (EB.tr (E39.tr E51)))) (Lay_X4_18 (f0.ext (EB.tr (E39.tr E51)))).1 ?_
        refine x_iload_n HE 1 dX4_passedOf_65 rfl rfl ?_
        refine x_bipush HE dX4_passedOf_66 (by decide) ?_
        refine x_callS HE dX4_passedOf_68 rfl (fun l => k_X4_its ⟨(Lay_X4_18 (f0.ext (EB.tr (E39.tr E51)))).2.1, (Lay_X4_18 (f0.ext (EB.tr (E39.tr E51)))).2.2⟩ l hw) (As := [rV (x0 + 6), iV x1, iV 7]) (rest := [iV r39]) rfl (lw_S q2168 q2169 q129 q2170) hy_X4_its.2 rfl rfl (Nat.le_of_ble_eq_true rfl) (Nat.le_of_ble_eq_true rfl) (Nat.le_of_ble_eq_true rfl) (kkI (fun r68 m68 E68 hw => ?_))
        have hw := hw E68
        refine x_ic_lt HE 78 dX4_passedOf_71 (by decide) (fun c71 => ?_) (fun c71 => ?_)
        · have hw := hw.1 c71
          exact w_X4_passedOf_78 HE hr f0 hK4 hw
        · have hw := hw.2 c71
          refine x_iconst HE dX4_passedOf_74 (by decide) ?_
          refine x_goto HE 79 dX4_passedOf_75 (by decide) ?_
          exact w_X4_passedOf_79 HE hr f0 hK4 hw
    · have hw := hw.2 c27
      refine Wx.mask [true, true, true, false, false, true, true] (lo2 := [some (rV x0), some (iV x1), some (iV l2), none, none, none, none]) rfl ?_
      exact w_X4_passedOf_30 HE hr f0 hw
theorem wl_X4_passedOf_4 {G : GT} {X : ET} {h0 : Hp} {x0 x1 : Int} (HE : XE G X cX4_passedOf 7 RX4 2 44 h0) (hr : XR X (some .int)) (f0 : Lay_X4 h0 x0) {Q : Int → Hp → Prop} {l2 l3 : Int} {h : Hp} (hw : Lp2 (g_X4_passedOf_L4 x0 x1 Q) l2 l3 h) : Wx G X h0 (QI Q) h 4 [some (rV x0), some (iV x1), some (iV l2), some (iV l3), none, none, none] [] := by
  obtain ⟨n, hw⟩ := hw
  induction n generalizing l2 l3 h with
  | zero => exact hw.elim
  | succ n ih => exact w_X4_passedOf_4 HE hr f0 (fun _ _ _ hk => ih hk) hw
def g_X4_passedOf (x0 x1 : Int) (Q : Int → Hp → Prop) (h : Hp) : Prop :=
  Lp2 (g_X4_passedOf_L4 x0 x1 Q) 0 0 h
theorem w_X4_passedOf_0 {G : GT} {X : ET} {h0 : Hp} {x0 x1 : Int} (HE : XE G X cX4_passedOf 7 RX4 2 44 h0) (hr : XR X (some .int)) (f0 : Lay_X4 h0 x0) {Q : Int → Hp → Prop} {h : Hp} (hw : g_X4_passedOf x0 x1 Q h) : Wx G X h0 (QI Q) h 0 [some (rV x0), some (iV x1), none, none, none, none, none] [] := by
  refine Wx.start (fun EB => ?_)
  unfold g_X4_passedOf at hw
  refine x_iconst HE dX4_passedOf_0 (by decide) ?_
  refine x_istore_n HE 2 (lo' := [some (rV x0), some (iV x1), some (iV 0), none, none, none, none]) dX4_passedOf_1 rfl (Nat.le_of_ble_eq_true rfl) rfl ?_
  refine x_iconst HE dX4_passedOf_2 (by decide) ?_
  refine x_istore_n HE 3 (lo' := [some (rV x0), some (iV x1), some (iV 0), some (iV 0), none, none, none]) dX4_passedOf_3 rfl (Nat.le_of_ble_eq_true rfl) rfl ?_
  exact wl_X4_passedOf_4 HE hr f0 hw
theorem k_X4_passedOf {G : GT} {x0 x1 : Int} {Q : Int → Hp → Prop} {h : Hp} (f0 : Lay_X4 h x0) (l : Launch) (hw : g_X4_passedOf x0 x1 Q h) : XM G l yX4_passedOf cX4_passedOf 7 (some .int) 2 44 [rV x0, iV x1] (QI Q) h :=
  XM.of (by decide) (Nat.le_of_ble_eq_true rfl) (fun X HE hr hn => w_X4_passedOf_0 HE hr f0 hw)
def g_X4_passed (x0 x1 : Int) (Q : Int → Hp → Prop) (h : Hp) : Prop :=
  g_X4_good x0 (fun m1 => Ext h m1 → (g_X4_isPerson x0 x1 (fun r6 m6 => Ext m1 m6 → (((r6 ≠ 0) → (g_X4_tellEvening x0 (fun m19 => Ext m6 m19 → (g_X4_passedOf x0 x1 (fun r24 m24 => Ext m19 m24 → (Q r24 m24)) m19)) m6)) ∧ ((r6 = 0) → (g_X4_no x0 1 (fun r14 m14 => Ext m6 m14 → (Q r14 m14)) m6)))) m1)) h
theorem w_X4_passed_0 {G : GT} {X : ET} {h0 : Hp} {x0 x1 : Int} (HE : XE G X cX4_passed 2 RX4 7 166 h0) (hr : XR X (some .int)) (f0 : Lay_X4 h0 x0) {Q : Int → Hp → Prop} {h : Hp} (hw : g_X4_passed x0 x1 Q h) : Wx G X h0 (QI Q) h 0 [some (rV x0), some (iV x1)] [] := by
  refine Wx.start (fun EB => ?_)
  unfold g_X4_passed at hw
  refine x_aload_n HE 0 dX4_passed_0 rfl rfl ?_
  refine x_callV HE dX4_passed_1 rfl (fun l => k_X4_good (f0.ext EB) l hw) (As := []) (rest := []) rfl xc10 (Lay_X4.tag (f0.ext EB)) (lw_V q1955 q1957 qs55 q129 q1958) hy_X4_good rfl rfl (Nat.le_of_ble_eq_true rfl) (Nat.le_of_ble_eq_true rfl) (Nat.le_of_ble_eq_true rfl) (kkV (fun m1 E1 hw => ?_))
  have hw := hw E1
  refine x_aload_n HE 0 dX4_passed_4 rfl rfl ?_
  refine x_iload_n HE 1 dX4_passed_5 rfl rfl ?_
  refine x_callV HE dX4_passed_6 rfl (fun l => k_X4_isPerson (f0.ext (EB.tr E1)) l hw) (As := [iV x1]) (rest := []) rfl xc10 (Lay_X4.tag (f0.ext (EB.tr E1))) (lw_V q2144 q2146 qs84 q129 q2147) hy_X4_isPerson rfl rfl (Nat.le_of_ble_eq_true rfl) (Nat.le_of_ble_eq_true rfl) (Nat.le_of_ble_eq_true rfl) (kkI (fun r6 m6 E6 hw => ?_))
  have hw := hw E6
  refine x_if_ne HE 18 dX4_passed_9 (by decide) (fun c9 => ?_) (fun c9 => ?_)
  · have hw := hw.1 c9
    refine x_aload_n HE 0 dX4_passed_18 rfl rfl ?_
    refine x_callV HE dX4_passed_19 rfl (fun l => k_X4_tellEvening (f0.ext (EB.tr (E1.tr E6))) l hw) (As := []) (rest := []) rfl xc10 (Lay_X4.tag (f0.ext (EB.tr (E1.tr E6)))) (lw_V q2222 q2224 qs94 q129 q2225) hy_X4_tellEvening rfl rfl (Nat.le_of_ble_eq_true rfl) (Nat.le_of_ble_eq_true rfl) (Nat.le_of_ble_eq_true rfl) (kkV (fun m19 E19 hw => ?_))
    have hw := hw E19
    refine x_aload_n HE 0 dX4_passed_22 rfl rfl ?_
    refine x_iload_n HE 1 dX4_passed_23 rfl rfl ?_
    refine x_callV HE dX4_passed_24 rfl (fun l => k_X4_passedOf (f0.ext (EB.tr (E1.tr (E6.tr E19)))) l hw) (As := [iV x1]) (rest := []) rfl xc10 (Lay_X4.tag (f0.ext (EB.tr (E1.tr (E6.tr E19))))) (lw_V q2262 q2264 qs100 q129 q2265) hy_X4_passedOf rfl rfl (Nat.le_of_ble_eq_true rfl) (Nat.le_of_ble_eq_true rfl) (Nat.le_of_ble_eq_true rfl) (kkI (fun r24 m24 E24 hw => ?_))
    have hw := hw E24
    exact x_iret HE hr dX4_passed_27 hw
  · have hw := hw.2 c9
    refine x_aload_n HE 0 dX4_passed_12 rfl rfl ?_
    refine x_iconst HE dX4_passed_13 (by decide) ?_
    refine x_callV HE dX4_passed_14 rfl (fun l => k_X4_no (f0.ext (EB.tr (E1.tr E6))) l hw) (As := [iV 1]) (rest := []) rfl xc10 (Lay_X4.tag (f0.ext (EB.tr (E1.tr E6)))) (lw_V q1962 q1964 qs56 q129 q1965) hy_X4_no rfl rfl (Nat.le_of_ble_eq_true rfl) (Nat.le_of_ble_eq_true rfl) (Nat.le_of_ble_eq_true rfl) (kkI (fun r14 m14 E14 hw => ?_))
    have hw := hw E14
    exact x_iret HE hr dX4_passed_17 hw
theorem k_X4_passed {G : GT} {x0 x1 : Int} {Q : Int → Hp → Prop} {h : Hp} (f0 : Lay_X4 h x0) (l : Launch) (hw : g_X4_passed x0 x1 Q h) : XM G l yX4_passed cX4_passed 2 (some .int) 7 166 [rV x0, iV x1] (QI Q) h :=
  XM.of (by decide) (Nat.le_of_ble_eq_true rfl) (fun X HE hr hn => w_X4_passed_0 HE hr f0 hw)
def g_X4_hasBit_b14 (x0 x1 : Int) (Q : Int → Hp → Prop) (s0 : Int) (h : Hp) : Prop :=
  (s0 = 0 ∨ s0 = 1) ∧ Q s0 h
theorem w_X4_hasBit_14 {G : GT} {X : ET} {h0 : Hp} {x0 x1 : Int} (HE : XE G X cX4_hasBit 2 RX4 0 0 h0) (hr : XR X (some .boolean)) {Q : Int → Hp → Prop} {s0 : Int} {h : Hp} (hw : g_X4_hasBit_b14 x0 x1 Q s0 h) : Wx G X h0 (QI Q) h 14 [some (iV x0), some (iV x1)] [iV s0] := by
  refine Wx.start (fun EB => ?_)
  unfold g_X4_hasBit_b14 at hw
  exact x_zret HE hr dX4_hasBit_14 hw.1 hw.2
def g_X4_hasBit (x0 x1 : Int) (Q : Int → Hp → Prop) (h : Hp) : Prop :=
  (((bAnd (bShr x0 x1) 1) ≠ 1) → (g_X4_hasBit_b14 x0 x1 Q 0 h)) ∧ (((bAnd (bShr x0 x1) 1) = 1) → (g_X4_hasBit_b14 x0 x1 Q 1 h))
theorem w_X4_hasBit_0 {G : GT} {X : ET} {h0 : Hp} {x0 x1 : Int} (HE : XE G X cX4_hasBit 2 RX4 0 0 h0) (hr : XR X (some .boolean)) {Q : Int → Hp → Prop} {h : Hp} (hw : g_X4_hasBit x0 x1 Q h) : Wx G X h0 (QI Q) h 0 [some (iV x0), some (iV x1)] [] := by
  refine Wx.start (fun EB => ?_)
  unfold g_X4_hasBit at hw
  refine x_iload_n HE 0 dX4_hasBit_0 rfl rfl ?_
  refine x_iload_n HE 1 dX4_hasBit_1 rfl rfl ?_
  refine x_ishr HE dX4_hasBit_2 ?_
  refine x_iconst HE dX4_hasBit_3 (by decide) ?_
  refine x_iand HE dX4_hasBit_4 ?_
  refine x_iconst HE dX4_hasBit_5 (by decide) ?_
  refine x_ic_ne HE 13 dX4_hasBit_6 (by decide) (fun c6 => ?_) (fun c6 => ?_)
  · have hw := hw.1 c6
    refine x_iconst HE dX4_hasBit_13 (by decide) ?_
    exact w_X4_hasBit_14 HE hr hw
  · have hw := hw.2 c6
    refine x_iconst HE dX4_hasBit_9 (by decide) ?_
    refine x_goto HE 14 dX4_hasBit_10 (by decide) ?_
    exact w_X4_hasBit_14 HE hr hw
theorem k_X4_hasBit {G : GT} {x0 x1 : Int} {Q : Int → Hp → Prop} {h : Hp} (l : Launch) (hw : g_X4_hasBit x0 x1 Q h) : XM G l yX4_hasBit cX4_hasBit 2 (some .boolean) 0 0 [iV x0, iV x1] (QI Q) h :=
  XM.of (by decide) (Nat.le_of_ble_eq_true rfl) (fun X HE hr hn => w_X4_hasBit_0 HE hr  hw)
def g_X4_pushedOf_b68 (x0 x1 : Int) (Q : Int → Hp → Prop) (l2 : Int) (h : Hp) : Prop :=
  Q l2 h
theorem w_X4_pushedOf_68 {G : GT} {X : ET} {h0 : Hp} {x0 x1 : Int} (HE : XE G X cX4_pushedOf 4 RX4 3 70 h0) (hr : XR X (some .int)) (f0 : Lay_X4 h0 x0) {Q : Int → Hp → Prop} {l2 : Int} {h : Hp} (hw : g_X4_pushedOf_b68 x0 x1 Q l2 h) : Wx G X h0 (QI Q) h 68 [some (rV x0), some (iV x1), some (iV l2), none] [] := by
  refine Wx.start (fun EB => ?_)
  unfold g_X4_pushedOf_b68 at hw
  refine x_iload_n HE 2 dX4_pushedOf_68 rfl rfl ?_
  exact x_iret HE hr dX4_pushedOf_69 hw
def g_X4_pushedOf_b62 (x0 x1 : Int) (Q : Int → Hp → Prop) (K20 : Int → Int → Hp → Prop) (l2 l3 : Int) (h : Hp) : Prop :=
  (i32 (l3 + 1)) ∧ (∀ y62 : Int, y62 = l3 + 1 → (K20 l2 y62 h))
theorem w_X4_pushedOf_62 {G : GT} {X : ET} {h0 : Hp} {x0 x1 : Int} (HE : XE G X cX4_pushedOf 4 RX4 3 70 h0) (hr : XR X (some .int)) (f0 : Lay_X4 h0 x0) {Q : Int → Hp → Prop} {K20 : Int → Int → Hp → Prop} (hK20 : ∀ (l2 l3 : Int) (h : Hp), K20 l2 l3 h → Wx G X h0 (QI Q) h 20 [some (rV x0), some (iV x1), some (iV l2), some (iV l3)] []) {l2 l3 : Int} {h : Hp} (hw : g_X4_pushedOf_b62 x0 x1 Q K20 l2 l3 h) : Wx G X h0 (QI Q) h 62 [some (rV x0), some (iV x1), some (iV l2), some (iV l3)] [] := by
  refine Wx.start (fun EB => ?_)
  unfold g_X4_pushedOf_b62 at hw
  obtain ⟨v62, hw⟩ := hw
  refine x_iincN HE (fun y62 => [some (rV x0), some (iV x1), some (iV l2), some (iV y62)]) dX4_pushedOf_62 rfl v62 (Nat.le_of_ble_eq_true rfl) (fun _ => rfl) (fun y62 ey62 => ?_)
  have hw := hw y62 ey62
  refine x_goto HE 20 dX4_pushedOf_65 (by decide) ?_
  exact hK20 _ _ _ hw
def g_X4_pushedOf_L20 (x0 x1 : Int) (Q : Int → Hp → Prop) (K20 : Int → Int → Hp → Prop) (l2 l3 : Int) (h : Hp) : Prop :=
  (((hA h (x0 + 3) 5) ≤ l3) → (g_X4_pushedOf_b68 x0 x1 Q l2 h)) ∧ ((l3 < (hA h (x0 + 3) 5)) → (((l3 = x1) → (g_X4_pushedOf_b62 x0 x1 Q K20 l2 l3 h)) ∧ ((l3 ≠ x1) → (g_X4_isBehind x0 x1 l3 (fun r38 m38 => Ext h m38 → (((r38 = 0) → (g_X4_pushedOf_b62 x0 x1 Q K20 l2 l3 m38)) ∧ ((r38 ≠ 0) → (g_X4_passedOf x0 l3 (fun r46 m46 => Ext m38 m46 → (g_X4_hasBit r46 x1 (fun r50 m50 => Ext m46 m50 → (((r50 = 0) → (g_X4_pushedOf_b62 x0 x1 Q K20 l2 l3 m50)) ∧ ((r50 ≠ 0) → (∀ y61 : Int, y61 = (bOr l2 (bShl 1 l3)) → (g_X4_pushedOf_b62 x0 x1 Q K20 y61 l3 m50))))) m46)) m38)))) h))))
theorem w_X4_pushedOf_20 {G : GT} {X : ET} {h0 : Hp} {x0 x1 : Int} (HE : XE G X cX4_pushedOf 4 RX4 3 70 h0) (hr : XR X (some .int)) (f0 : Lay_X4 h0 x0) {Q : Int → Hp → Prop} {K20 : Int → Int → Hp → Prop} (hK20 : ∀ (l2 l3 : Int) (h : Hp), K20 l2 l3 h → Wx G X h0 (QI Q) h 20 [some (rV x0), some (iV x1), some (iV l2), some (iV l3)] []) {l2 l3 : Int} {h : Hp} (hw : g_X4_pushedOf_L20 x0 x1 Q K20 l2 l3 h) : Wx G X h0 (QI Q) h 20 [some (rV x0), some (iV x1), some (iV l2), some (iV l3)] [] := by
  refine Wx.start (fun EB => ?_)
  unfold g_X4_pushedOf_L20 at hw
  refine x_iload_n HE 3 dX4_pushedOf_20 rfl rfl ?_
  refine x_aload_n HE 0 dX4_pushedOf_21 rfl rfl ?_
  refine x_gR HE dX4_pushedOf_22 fd_X4_15 q1852 (Or.inl rfl) (Lay_X4.tag (f0.ext EB)) (Lay_X4_15 (f0.ext EB)).1 ?_
  refine x_iconst HE dX4_pushedOf_25 (by decide) ?_
  refine x_iald HE dX4_pushedOf_26 (t := 1) (by decide) ((Lay_X4_15 (f0.ext EB)).2.1) (ix_of ((Lay_X4_15 (f0.ext EB)).2.2) (by decide)) rfl ?_
  refine x_ic_ge HE 68 dX4_pushedOf_27 (by decide) (fun c27 => ?_) (fun c27 => ?_)
  · have hw := hw.1 c27
    refine Wx.mask [true, true, true, false] (lo2 := [some (rV x0), some (iV x1), some (iV l2), none]) rfl ?_
    exact w_X4_pushedOf_68 HE hr f0 hw
  · have hw := hw.2 c27
    refine x_iload_n HE 3 dX4_pushedOf_30 rfl rfl ?_
    refine x_iload_n HE 1 dX4_pushedOf_31 rfl rfl ?_
    refine x_ic_eq HE 62 dX4_pushedOf_32 (by decide) (fun c32 => ?_) (fun c32 => ?_)
    · have hw := hw.1 c32
      exact w_X4_pushedOf_62 HE hr f0 hK20 hw
    · have hw := hw.2 c32
      refine x_aload_n HE 0 dX4_pushedOf_35 rfl rfl ?_
      refine x_iload_n HE 1 dX4_pushedOf_36 rfl rfl ?_
      refine x_iload_n HE 3 dX4_pushedOf_37 rfl rfl ?_
      refine x_callV HE dX4_pushedOf_38 rfl (fun l => k_X4_isBehind (f0.ext EB) l hw) (As := [iV x1, iV l3]) (rest := []) rfl xc10 (Lay_X4.tag (f0.ext EB)) (lw_V q2266 q2268 qs101 q129 q2269) hy_X4_isBehind rfl rfl (Nat.le_of_ble_eq_true rfl) (Nat.le_of_ble_eq_true rfl) (Nat.le_of_ble_eq_true rfl) (kkI (fun r38 m38 E38 hw => ?_))
      have hw := hw E38
      refine x_if_eq HE 62 dX4_pushedOf_41 (by decide) (fun c41 => ?_) (fun c41 => ?_)
      · have hw := hw.1 c41
        exact w_X4_pushedOf_62 HE hr f0 hK20 hw
      · have hw := hw.2 c41
        refine x_aload_n HE 0 dX4_pushedOf_44 rfl rfl ?_
        refine x_iload_n HE 3 dX4_pushedOf_45 rfl rfl ?_
        refine x_callV HE dX4_pushedOf_46 rfl (fun l => k_X4_passedOf (f0.ext (EB.tr E38)) l hw) (As := [iV l3]) (rest := []) rfl xc10 (Lay_X4.tag (f0.ext (EB.tr E38))) (lw_V q2262 q2264 qs100 q129 q2265) hy_X4_passedOf rfl rfl (Nat.le_of_ble_eq_true rfl) (Nat.le_of_ble_eq_true rfl) (Nat.le_of_ble_eq_true rfl) (kkI (fun r46 m46 E46 hw => ?_))
        have hw := hw E46
        refine x_iload_n HE 1 dX4_pushedOf_49 rfl rfl ?_
        refine x_callS HE dX4_pushedOf_50 rfl (fun l => k_X4_hasBit  l hw) (As := [iV r46, iV x1]) (rest := []) rfl (lw_S q2278 q2279 q129 q2280) hy_X4_hasBit.2 rfl rfl (Nat.le_of_ble_eq_true rfl) (Nat.le_of_ble_eq_true rfl) (Nat.le_of_ble_eq_true rfl) (kkI (fun r50 m50 E50 hw => ?_))
        have hw := hw E50
        refine x_if_eq HE 62 dX4_pushedOf_53 (by decide) (fun c53 => ?_) (fun c53 => ?_)
        · have hw := hw.1 c53
          exact w_X4_pushedOf_62 HE hr f0 hK20 hw
        · have hw := hw.2 c53
          refine x_iload_n HE 2 dX4_pushedOf_56 rfl rfl ?_
          refine x_iconst HE dX4_pushedOf_57 (by decide) ?_
          refine x_iload_n HE 3 dX4_pushedOf_58 rfl rfl ?_
          refine x_ishl HE dX4_pushedOf_59 ?_
          refine x_ior HE dX4_pushedOf_60 ?_
          refine x_istore_nN HE 2 (fun y61 => [some (rV x0), some (iV x1), some (iV y61), some (iV l3)]) dX4_pushedOf_61 rfl (Nat.le_of_ble_eq_true rfl) (fun _ => rfl) (fun y61 ey61 => ?_)
          have hw := hw y61 ey61
          exact w_X4_pushedOf_62 HE hr f0 hK20 hw
theorem wl_X4_pushedOf_20 {G : GT} {X : ET} {h0 : Hp} {x0 x1 : Int} (HE : XE G X cX4_pushedOf 4 RX4 3 70 h0) (hr : XR X (some .int)) (f0 : Lay_X4 h0 x0) {Q : Int → Hp → Prop} {l2 l3 : Int} {h : Hp} (hw : Lp2 (g_X4_pushedOf_L20 x0 x1 Q) l2 l3 h) : Wx G X h0 (QI Q) h 20 [some (rV x0), some (iV x1), some (iV l2), some (iV l3)] [] := by
  obtain ⟨n, hw⟩ := hw
  induction n generalizing l2 l3 h with
  | zero => exact hw.elim
  | succ n ih => exact w_X4_pushedOf_20 HE hr f0 (fun _ _ _ hk => ih hk) hw
def g_X4_pushedOf (x0 x1 : Int) (Q : Int → Hp → Prop) (h : Hp) : Prop :=
  g_X4_its (x0 + 6) x1 4 (fun r8 m8 => Ext h m8 → (((r8 ≠ (-2)) → (Lp2 (g_X4_pushedOf_L20 x0 x1 Q) 0 0 m8)) ∧ ((r8 = (-2)) → (Q 0 m8)))) h
theorem w_X4_pushedOf_0 {G : GT} {X : ET} {h0 : Hp} {x0 x1 : Int} (HE : XE G X cX4_pushedOf 4 RX4 3 70 h0) (hr : XR X (some .int)) (f0 : Lay_X4 h0 x0) {Q : Int → Hp → Prop} {h : Hp} (hw : g_X4_pushedOf x0 x1 Q h) : Wx G X h0 (QI Q) h 0 [some (rV x0), some (iV x1), none, none] [] := by
  refine Wx.start (fun EB => ?_)
  unfold g_X4_pushedOf at hw
  refine x_iconst HE dX4_pushedOf_0 (by decide) ?_
  refine x_istore_n HE 2 (lo' := [some (rV x0), some (iV x1), some (iV 0), none]) dX4_pushedOf_1 rfl (Nat.le_of_ble_eq_true rfl) rfl ?_
  refine x_aload_n HE 0 dX4_pushedOf_2 rfl rfl ?_
  refine x_gR HE dX4_pushedOf_3 fd_X4_18 q1855 (Or.inl rfl) (Lay_X4.tag (f0.ext EB)) (Lay_X4_18 (f0.ext EB)).1 ?_
  refine x_iload_n HE 1 dX4_pushedOf_6 rfl rfl ?_
  refine x_iconst HE dX4_pushedOf_7 (by decide) ?_
  refine x_callS HE dX4_pushedOf_8 rfl (fun l => k_X4_its ⟨(Lay_X4_18 (f0.ext EB)).2.1, (Lay_X4_18 (f0.ext EB)).2.2⟩ l hw) (As := [rV (x0 + 6), iV x1, iV 4]) (rest := []) rfl (lw_S q2168 q2169 q129 q2170) hy_X4_its.2 rfl rfl (Nat.le_of_ble_eq_true rfl) (Nat.le_of_ble_eq_true rfl) (Nat.le_of_ble_eq_true rfl) (kkI (fun r8 m8 E8 hw => ?_))
  have hw := hw E8
  refine x_bipush HE dX4_pushedOf_11 (by decide) ?_
  refine x_ic_ne HE 18 dX4_pushedOf_13 (by decide) (fun c13 => ?_) (fun c13 => ?_)
  · have hw := hw.1 c13
    refine x_iconst HE dX4_pushedOf_18 (by decide) ?_
    refine x_istore_n HE 3 (lo' := [some (rV x0), some (iV x1), some (iV 0), some (iV 0)]) dX4_pushedOf_19 rfl (Nat.le_of_ble_eq_true rfl) rfl ?_
    exact wl_X4_pushedOf_20 HE hr f0 hw
  · have hw := hw.2 c13
    refine x_iconst HE dX4_pushedOf_16 (by decide) ?_
    exact x_iret HE hr dX4_pushedOf_17 hw
theorem k_X4_pushedOf {G : GT} {x0 x1 : Int} {Q : Int → Hp → Prop} {h : Hp} (f0 : Lay_X4 h x0) (l : Launch) (hw : g_X4_pushedOf x0 x1 Q h) : XM G l yX4_pushedOf cX4_pushedOf 4 (some .int) 3 70 [rV x0, iV x1] (QI Q) h :=
  XM.of (by decide) (Nat.le_of_ble_eq_true rfl) (fun X HE hr hn => w_X4_pushedOf_0 HE hr f0 hw)
def g_X4_pushed (x0 x1 : Int) (Q : Int → Hp → Prop) (h : Hp) : Prop :=
  g_X4_good x0 (fun m1 => Ext h m1 → (g_X4_isPerson x0 x1 (fun r6 m6 => Ext m1 m6 → (((r6 ≠ 0) → (g_X4_tellEvening x0 (fun m19 => Ext m6 m19 → (g_X4_pushedOf x0 x1 (fun r24 m24 => Ext m19 m24 → (Q r24 m24)) m19)) m6)) ∧ ((r6 = 0) → (g_X4_no x0 1 (fun r14 m14 => Ext m6 m14 → (Q r14 m14)) m6)))) m1)) h
theorem w_X4_pushed_0 {G : GT} {X : ET} {h0 : Hp} {x0 x1 : Int} (HE : XE G X cX4_pushed 2 RX4 7 166 h0) (hr : XR X (some .int)) (f0 : Lay_X4 h0 x0) {Q : Int → Hp → Prop} {h : Hp} (hw : g_X4_pushed x0 x1 Q h) : Wx G X h0 (QI Q) h 0 [some (rV x0), some (iV x1)] [] := by
  refine Wx.start (fun EB => ?_)
  unfold g_X4_pushed at hw
  refine x_aload_n HE 0 dX4_pushed_0 rfl rfl ?_
  refine x_callV HE dX4_pushed_1 rfl (fun l => k_X4_good (f0.ext EB) l hw) (As := []) (rest := []) rfl xc10 (Lay_X4.tag (f0.ext EB)) (lw_V q1955 q1957 qs55 q129 q1958) hy_X4_good rfl rfl (Nat.le_of_ble_eq_true rfl) (Nat.le_of_ble_eq_true rfl) (Nat.le_of_ble_eq_true rfl) (kkV (fun m1 E1 hw => ?_))
  have hw := hw E1
  refine x_aload_n HE 0 dX4_pushed_4 rfl rfl ?_
  refine x_iload_n HE 1 dX4_pushed_5 rfl rfl ?_
  refine x_callV HE dX4_pushed_6 rfl (fun l => k_X4_isPerson (f0.ext (EB.tr E1)) l hw) (As := [iV x1]) (rest := []) rfl xc10 (Lay_X4.tag (f0.ext (EB.tr E1))) (lw_V q2144 q2146 qs84 q129 q2147) hy_X4_isPerson rfl rfl (Nat.le_of_ble_eq_true rfl) (Nat.le_of_ble_eq_true rfl) (Nat.le_of_ble_eq_true rfl) (kkI (fun r6 m6 E6 hw => ?_))
  have hw := hw E6
  refine x_if_ne HE 18 dX4_pushed_9 (by decide) (fun c9 => ?_) (fun c9 => ?_)
  · have hw := hw.1 c9
    refine x_aload_n HE 0 dX4_pushed_18 rfl rfl ?_
    refine x_callV HE dX4_pushed_19 rfl (fun l => k_X4_tellEvening (f0.ext (EB.tr (E1.tr E6))) l hw) (As := []) (rest := []) rfl xc10 (Lay_X4.tag (f0.ext (EB.tr (E1.tr E6)))) (lw_V q2222 q2224 qs94 q129 q2225) hy_X4_tellEvening rfl rfl (Nat.le_of_ble_eq_true rfl) (Nat.le_of_ble_eq_true rfl) (Nat.le_of_ble_eq_true rfl) (kkV (fun m19 E19 hw => ?_))
    have hw := hw E19
    refine x_aload_n HE 0 dX4_pushed_22 rfl rfl ?_
    refine x_iload_n HE 1 dX4_pushed_23 rfl rfl ?_
    refine x_callV HE dX4_pushed_24 rfl (fun l => k_X4_pushedOf (f0.ext (EB.tr (E1.tr (E6.tr E19)))) l hw) (As := [iV x1]) (rest := []) rfl xc10 (Lay_X4.tag (f0.ext (EB.tr (E1.tr (E6.tr E19))))) (lw_V q2274 q2276 qs102 q129 q2277) hy_X4_pushedOf rfl rfl (Nat.le_of_ble_eq_true rfl) (Nat.le_of_ble_eq_true rfl) (Nat.le_of_ble_eq_true rfl) (kkI (fun r24 m24 E24 hw => ?_))
    have hw := hw E24
    exact x_iret HE hr dX4_pushed_27 hw
  · have hw := hw.2 c9
    refine x_aload_n HE 0 dX4_pushed_12 rfl rfl ?_
    refine x_iconst HE dX4_pushed_13 (by decide) ?_
    refine x_callV HE dX4_pushed_14 rfl (fun l => k_X4_no (f0.ext (EB.tr (E1.tr E6))) l hw) (As := [iV 1]) (rest := []) rfl xc10 (Lay_X4.tag (f0.ext (EB.tr (E1.tr E6)))) (lw_V q1962 q1964 qs56 q129 q1965) hy_X4_no rfl rfl (Nat.le_of_ble_eq_true rfl) (Nat.le_of_ble_eq_true rfl) (Nat.le_of_ble_eq_true rfl) (kkI (fun r14 m14 E14 hw => ?_))
    have hw := hw E14
    exact x_iret HE hr dX4_pushed_17 hw
theorem k_X4_pushed {G : GT} {x0 x1 : Int} {Q : Int → Hp → Prop} {h : Hp} (f0 : Lay_X4 h x0) (l : Launch) (hw : g_X4_pushed x0 x1 Q h) : XM G l yX4_pushed cX4_pushed 2 (some .int) 7 166 [rV x0, iV x1] (QI Q) h :=
  XM.of (by decide) (Nat.le_of_ble_eq_true rfl) (fun X HE hr hn => w_X4_pushed_0 HE hr f0 hw)
def g_X4_ones_b24 (x0 : Int) (Q : Int → Hp → Prop) (l1 : Int) (h : Hp) : Prop :=
  Q l1 h
theorem w_X4_ones_24 {G : GT} {X : ET} {h0 : Hp} {x0 : Int} (HE : XE G X cX4_ones 3 RX4 0 0 h0) (hr : XR X (some .int)) {Q : Int → Hp → Prop} {l1 : Int} {h : Hp} (hw : g_X4_ones_b24 x0 Q l1 h) : Wx G X h0 (QI Q) h 24 [some (iV x0), some (iV l1), none] [] := by
  refine Wx.start (fun EB => ?_)
  unfold g_X4_ones_b24 at hw
  refine x_iload_n HE 1 dX4_ones_24 rfl rfl ?_
  exact x_iret HE hr dX4_ones_25 hw
def g_X4_ones_L4 (x0 : Int) (Q : Int → Hp → Prop) (K4 : Int → Int → Hp → Prop) (l1 l2 : Int) (h : Hp) : Prop :=
  ((10 ≤ l2) → (g_X4_ones_b24 x0 Q l1 h)) ∧ ((l2 < 10) → ((i32 (l1 + (bAnd (bShr x0 l2) 1))) ∧ (∀ y17 : Int, y17 = (l1 + (bAnd (bShr x0 l2) 1)) → ((i32 (l2 + 1)) ∧ (∀ y18 : Int, y18 = l2 + 1 → (K4 y17 y18 h))))))
theorem w_X4_ones_4 {G : GT} {X : ET} {h0 : Hp} {x0 : Int} (HE : XE G X cX4_ones 3 RX4 0 0 h0) (hr : XR X (some .int)) {Q : Int → Hp → Prop} {K4 : Int → Int → Hp → Prop} (hK4 : ∀ (l1 l2 : Int) (h : Hp), K4 l1 l2 h → Wx G X h0 (QI Q) h 4 [some (iV x0), some (iV l1), some (iV l2)] []) {l1 l2 : Int} {h : Hp} (hw : g_X4_ones_L4 x0 Q K4 l1 l2 h) : Wx G X h0 (QI Q) h 4 [some (iV x0), some (iV l1), some (iV l2)] [] := by
  refine Wx.start (fun EB => ?_)
  unfold g_X4_ones_L4 at hw
  refine x_iload_n HE 2 dX4_ones_4 rfl rfl ?_
  refine x_bipush HE dX4_ones_5 (by decide) ?_
  refine x_ic_ge HE 24 dX4_ones_7 (by decide) (fun c7 => ?_) (fun c7 => ?_)
  · have hw := hw.1 c7
    refine Wx.mask [true, true, false] (lo2 := [some (iV x0), some (iV l1), none]) rfl ?_
    exact w_X4_ones_24 HE hr hw
  · have hw := hw.2 c7
    refine x_iload_n HE 1 dX4_ones_10 rfl rfl ?_
    refine x_iload_n HE 0 dX4_ones_11 rfl rfl ?_
    refine x_iload_n HE 2 dX4_ones_12 rfl rfl ?_
    refine x_ishr HE dX4_ones_13 ?_
    refine x_iconst HE dX4_ones_14 (by decide) ?_
    refine x_iand HE dX4_ones_15 ?_
    obtain ⟨v16, hw⟩ := hw
    refine x_iadd HE dX4_ones_16 v16 ?_
    refine x_istore_nN HE 1 (fun y17 => [some (iV x0), some (iV y17), some (iV l2)]) dX4_ones_17 rfl (Nat.le_of_ble_eq_true rfl) (fun _ => rfl) (fun y17 ey17 => ?_)
    have hw := hw y17 ey17
    obtain ⟨v18, hw⟩ := hw
    refine x_iincN HE (fun y18 => [some (iV x0), some (iV y17), some (iV y18)]) dX4_ones_18 rfl v18 (Nat.le_of_ble_eq_true rfl) (fun _ => rfl) (fun y18 ey18 => ?_)
    have hw := hw y18 ey18
    refine x_goto HE 4 dX4_ones_21 (by decide) ?_
    exact hK4 _ _ _ hw
theorem wl_X4_ones_4 {G : GT} {X : ET} {h0 : Hp} {x0 : Int} (HE : XE G X cX4_ones 3 RX4 0 0 h0) (hr : XR X (some .int)) {Q : Int → Hp → Prop} {l1 l2 : Int} {h : Hp} (hw : Lp2 (g_X4_ones_L4 x0 Q) l1 l2 h) : Wx G X h0 (QI Q) h 4 [some (iV x0), some (iV l1), some (iV l2)] [] := by
  obtain ⟨n, hw⟩ := hw
  induction n generalizing l1 l2 h with
  | zero => exact hw.elim
  | succ n ih => exact w_X4_ones_4 HE hr (fun _ _ _ hk => ih hk) hw
def g_X4_ones (x0 : Int) (Q : Int → Hp → Prop) (h : Hp) : Prop :=
  Lp2 (g_X4_ones_L4 x0 Q) 0 0 h
theorem w_X4_ones_0 {G : GT} {X : ET} {h0 : Hp} {x0 : Int} (HE : XE G X cX4_ones 3 RX4 0 0 h0) (hr : XR X (some .int)) {Q : Int → Hp → Prop} {h : Hp} (hw : g_X4_ones x0 Q h) : Wx G X h0 (QI Q) h 0 [some (iV x0), none, none] [] := by
  refine Wx.start (fun EB => ?_)
  unfold g_X4_ones at hw
  refine x_iconst HE dX4_ones_0 (by decide) ?_
  refine x_istore_n HE 1 (lo' := [some (iV x0), some (iV 0), none]) dX4_ones_1 rfl (Nat.le_of_ble_eq_true rfl) rfl ?_
  refine x_iconst HE dX4_ones_2 (by decide) ?_
  refine x_istore_n HE 2 (lo' := [some (iV x0), some (iV 0), some (iV 0)]) dX4_ones_3 rfl (Nat.le_of_ble_eq_true rfl) rfl ?_
  exact wl_X4_ones_4 HE hr hw
theorem k_X4_ones {G : GT} {x0 : Int} {Q : Int → Hp → Prop} {h : Hp} (l : Launch) (hw : g_X4_ones x0 Q h) : XM G l yX4_ones cX4_ones 3 (some .int) 0 0 [iV x0] (QI Q) h :=
  XM.of (by decide) (Nat.le_of_ble_eq_true rfl) (fun X HE hr hn => w_X4_ones_0 HE hr  hw)
def g_X4_sumOf_b182 (x0 x1 : Int) (Q : Int → Hp → Prop) (l2 : Int) (h : Hp) : Prop :=
  Q l2 h
theorem w_X4_sumOf_182 {G : GT} {X : ET} {h0 : Hp} {x0 x1 : Int} (HE : XE G X cX4_sumOf 5 RX4 3 70 h0) (hr : XR X (some .int)) (f0 : Lay_X4 h0 x0) {Q : Int → Hp → Prop} {l2 : Int} {h : Hp} (hw : g_X4_sumOf_b182 x0 x1 Q l2 h) : Wx G X h0 (QI Q) h 182 [some (rV x0), some (iV x1), some (iV l2), none, none] [] := by
  refine Wx.start (fun EB => ?_)
  unfold g_X4_sumOf_b182 at hw
  refine x_iload_n HE 2 dX4_sumOf_182 rfl rfl ?_
  exact x_iret HE hr dX4_sumOf_183 hw
def g_X4_sumOf_b176 (x0 x1 : Int) (Q : Int → Hp → Prop) (K4 : Int → Int → Hp → Prop) (l2 l3 : Int) (h : Hp) : Prop :=
  (i32 (l3 + 1)) ∧ (∀ y176 : Int, y176 = l3 + 1 → (K4 l2 y176 h))
theorem w_X4_sumOf_176 {G : GT} {X : ET} {h0 : Hp} {x0 x1 : Int} (HE : XE G X cX4_sumOf 5 RX4 3 70 h0) (hr : XR X (some .int)) (f0 : Lay_X4 h0 x0) {Q : Int → Hp → Prop} {K4 : Int → Int → Hp → Prop} (hK4 : ∀ (l2 l3 : Int) (h : Hp), K4 l2 l3 h → Wx G X h0 (QI Q) h 4 [some (rV x0), some (iV x1), some (iV l2), some (iV l3), none] []) {l2 l3 : Int} {h : Hp} (hw : g_X4_sumOf_b176 x0 x1 Q K4 l2 l3 h) : Wx G X h0 (QI Q) h 176 [some (rV x0), some (iV x1), some (iV l2), some (iV l3), none] [] := by
  refine Wx.start (fun EB => ?_)
  unfold g_X4_sumOf_b176 at hw
  obtain ⟨v176, hw⟩ := hw
  refine x_iincN HE (fun y176 => [some (rV x0), some (iV x1), some (iV l2), some (iV y176), none]) dX4_sumOf_176 rfl v176 (Nat.le_of_ble_eq_true rfl) (fun _ => rfl) (fun y176 ey176 => ?_)
  have hw := hw y176 ey176
  refine x_goto HE 4 dX4_sumOf_179 (by decide) ?_
  exact hK4 _ _ _ hw
def g_X4_sumOf_b174 (x0 x1 : Int) (Q : Int → Hp → Prop) (K4 : Int → Int → Hp → Prop) (l3 s0 s1 : Int) (h : Hp) : Prop :=
  (i32 (s0 + s1)) ∧ (∀ y175 : Int, y175 = (s0 + s1) → (g_X4_sumOf_b176 x0 x1 Q K4 y175 l3 h))
theorem w_X4_sumOf_174 {G : GT} {X : ET} {h0 : Hp} {x0 x1 : Int} (HE : XE G X cX4_sumOf 5 RX4 3 70 h0) (hr : XR X (some .int)) (f0 : Lay_X4 h0 x0) {Q : Int → Hp → Prop} {K4 : Int → Int → Hp → Prop} (hK4 : ∀ (l2 l3 : Int) (h : Hp), K4 l2 l3 h → Wx G X h0 (QI Q) h 4 [some (rV x0), some (iV x1), some (iV l2), some (iV l3), none] []) {l3 s0 s1 : Int} {h : Hp} (hw : g_X4_sumOf_b174 x0 x1 Q K4 l3 s0 s1 h) : Wx G X h0 (QI Q) h 174 [some (rV x0), some (iV x1), none, some (iV l3), none] [iV s1, iV s0] := by
  refine Wx.start (fun EB => ?_)
  unfold g_X4_sumOf_b174 at hw
  obtain ⟨v174, hw⟩ := hw
  refine x_iadd HE dX4_sumOf_174 v174 ?_
  refine x_istore_nN HE 2 (fun y175 => [some (rV x0), some (iV x1), some (iV y175), some (iV l3), none]) dX4_sumOf_175 rfl (Nat.le_of_ble_eq_true rfl) (fun _ => rfl) (fun y175 ey175 => ?_)
  have hw := hw y175 ey175
  exact w_X4_sumOf_176 HE hr f0 hK4 hw
def g_X4_sumOf_b139 (x0 x1 : Int) (Q : Int → Hp → Prop) (K4 : Int → Int → Hp → Prop) (l3 s0 s1 : Int) (h : Hp) : Prop :=
  (i32 (s0 + s1)) ∧ (∀ y140 : Int, y140 = (s0 + s1) → (g_X4_sumOf_b176 x0 x1 Q K4 y140 l3 h))
theorem w_X4_sumOf_139 {G : GT} {X : ET} {h0 : Hp} {x0 x1 : Int} (HE : XE G X cX4_sumOf 5 RX4 3 70 h0) (hr : XR X (some .int)) (f0 : Lay_X4 h0 x0) {Q : Int → Hp → Prop} {K4 : Int → Int → Hp → Prop} (hK4 : ∀ (l2 l3 : Int) (h : Hp), K4 l2 l3 h → Wx G X h0 (QI Q) h 4 [some (rV x0), some (iV x1), some (iV l2), some (iV l3), none] []) {l3 s0 s1 : Int} {h : Hp} (hw : g_X4_sumOf_b139 x0 x1 Q K4 l3 s0 s1 h) : Wx G X h0 (QI Q) h 139 [some (rV x0), some (iV x1), none, some (iV l3), none] [iV s1, iV s0] := by
  refine Wx.start (fun EB => ?_)
  unfold g_X4_sumOf_b139 at hw
  obtain ⟨v139, hw⟩ := hw
  refine x_iadd HE dX4_sumOf_139 v139 ?_
  refine x_istore_nN HE 2 (fun y140 => [some (rV x0), some (iV x1), some (iV y140), some (iV l3), none]) dX4_sumOf_140 rfl (Nat.le_of_ble_eq_true rfl) (fun _ => rfl) (fun y140 ey140 => ?_)
  have hw := hw y140 ey140
  refine x_goto HE 176 dX4_sumOf_141 (by decide) ?_
  exact w_X4_sumOf_176 HE hr f0 hK4 hw
def g_X4_sumOf_b118 (x0 x1 : Int) (Q : Int → Hp → Prop) (K4 : Int → Int → Hp → Prop) (l3 s0 s1 : Int) (h : Hp) : Prop :=
  (i32 (s0 + s1)) ∧ (∀ y119 : Int, y119 = (s0 + s1) → (g_X4_sumOf_b176 x0 x1 Q K4 y119 l3 h))
theorem w_X4_sumOf_118 {G : GT} {X : ET} {h0 : Hp} {x0 x1 : Int} (HE : XE G X cX4_sumOf 5 RX4 3 70 h0) (hr : XR X (some .int)) (f0 : Lay_X4 h0 x0) {Q : Int → Hp → Prop} {K4 : Int → Int → Hp → Prop} (hK4 : ∀ (l2 l3 : Int) (h : Hp), K4 l2 l3 h → Wx G X h0 (QI Q) h 4 [some (rV x0), some (iV x1), some (iV l2), some (iV l3), none] []) {l3 s0 s1 : Int} {h : Hp} (hw : g_X4_sumOf_b118 x0 x1 Q K4 l3 s0 s1 h) : Wx G X h0 (QI Q) h 118 [some (rV x0), some (iV x1), none, some (iV l3), none] [iV s1, iV s0] := by
  refine Wx.start (fun EB => ?_)
  unfold g_X4_sumOf_b118 at hw
  obtain ⟨v118, hw⟩ := hw
  refine x_iadd HE dX4_sumOf_118 v118 ?_
  refine x_istore_nN HE 2 (fun y119 => [some (rV x0), some (iV x1), some (iV y119), some (iV l3), none]) dX4_sumOf_119 rfl (Nat.le_of_ble_eq_true rfl) (fun _ => rfl) (fun y119 ey119 => ?_)
  have hw := hw y119 ey119
  refine x_goto HE 176 dX4_sumOf_120 (by decide) ?_
  exact w_X4_sumOf_176 HE hr f0 hK4 hw
def g_X4_sumOf_b101 (x0 x1 : Int) (Q : Int → Hp → Prop) (K4 : Int → Int → Hp → Prop) (l3 s0 s1 : Int) (h : Hp) : Prop :=
  (i32 (s0 + s1)) ∧ (∀ y102 : Int, y102 = (s0 + s1) → (g_X4_sumOf_b176 x0 x1 Q K4 y102 l3 h))
theorem w_X4_sumOf_101 {G : GT} {X : ET} {h0 : Hp} {x0 x1 : Int} (HE : XE G X cX4_sumOf 5 RX4 3 70 h0) (hr : XR X (some .int)) (f0 : Lay_X4 h0 x0) {Q : Int → Hp → Prop} {K4 : Int → Int → Hp → Prop} (hK4 : ∀ (l2 l3 : Int) (h : Hp), K4 l2 l3 h → Wx G X h0 (QI Q) h 4 [some (rV x0), some (iV x1), some (iV l2), some (iV l3), none] []) {l3 s0 s1 : Int} {h : Hp} (hw : g_X4_sumOf_b101 x0 x1 Q K4 l3 s0 s1 h) : Wx G X h0 (QI Q) h 101 [some (rV x0), some (iV x1), none, some (iV l3), none] [iV s1, iV s0] := by
  refine Wx.start (fun EB => ?_)
  unfold g_X4_sumOf_b101 at hw
  obtain ⟨v101, hw⟩ := hw
  refine x_iadd HE dX4_sumOf_101 v101 ?_
  refine x_istore_nN HE 2 (fun y102 => [some (rV x0), some (iV x1), some (iV y102), some (iV l3), none]) dX4_sumOf_102 rfl (Nat.le_of_ble_eq_true rfl) (fun _ => rfl) (fun y102 ey102 => ?_)
  have hw := hw y102 ey102
  refine x_goto HE 176 dX4_sumOf_103 (by decide) ?_
  exact w_X4_sumOf_176 HE hr f0 hK4 hw
def g_X4_sumOf_b84 (x0 x1 : Int) (Q : Int → Hp → Prop) (K4 : Int → Int → Hp → Prop) (l3 s0 s1 : Int) (h : Hp) : Prop :=
  (i32 (s0 + s1)) ∧ (∀ y85 : Int, y85 = (s0 + s1) → (g_X4_sumOf_b176 x0 x1 Q K4 y85 l3 h))
theorem w_X4_sumOf_84 {G : GT} {X : ET} {h0 : Hp} {x0 x1 : Int} (HE : XE G X cX4_sumOf 5 RX4 3 70 h0) (hr : XR X (some .int)) (f0 : Lay_X4 h0 x0) {Q : Int → Hp → Prop} {K4 : Int → Int → Hp → Prop} (hK4 : ∀ (l2 l3 : Int) (h : Hp), K4 l2 l3 h → Wx G X h0 (QI Q) h 4 [some (rV x0), some (iV x1), some (iV l2), some (iV l3), none] []) {l3 s0 s1 : Int} {h : Hp} (hw : g_X4_sumOf_b84 x0 x1 Q K4 l3 s0 s1 h) : Wx G X h0 (QI Q) h 84 [some (rV x0), some (iV x1), none, some (iV l3), none] [iV s1, iV s0] := by
  refine Wx.start (fun EB => ?_)
  unfold g_X4_sumOf_b84 at hw
  obtain ⟨v84, hw⟩ := hw
  refine x_iadd HE dX4_sumOf_84 v84 ?_
  refine x_istore_nN HE 2 (fun y85 => [some (rV x0), some (iV x1), some (iV y85), some (iV l3), none]) dX4_sumOf_85 rfl (Nat.le_of_ble_eq_true rfl) (fun _ => rfl) (fun y85 ey85 => ?_)
  have hw := hw y85 ey85
  refine x_goto HE 176 dX4_sumOf_86 (by decide) ?_
  exact w_X4_sumOf_176 HE hr f0 hK4 hw
def g_X4_sumOf_L4 (x0 x1 : Int) (Q : Int → Hp → Prop) (K4 : Int → Int → Hp → Prop) (l2 l3 : Int) (h : Hp) : Prop :=
  (((hA h (x0 + 3) 5) ≤ l3) → (g_X4_sumOf_b182 x0 x1 Q l2 h)) ∧ ((l3 < (hA h (x0 + 3) 5)) → (g_X4_fateOf x0 l3 (fun r16 m16 => Ext h m16 → (g_X4_its (x0 + 6) l3 0 (fun r27 m27 => Ext m16 m27 → (((r27 ≠ 0) → (((x1 = 0) → (((2 ≤ r16) → (g_X4_sumOf_b84 x0 x1 Q K4 l3 l2 0 m27)) ∧ ((r16 < 2) → (g_X4_sumOf_b84 x0 x1 Q K4 l3 l2 1 m27)))) ∧ ((x1 = 1) → (((r16 ≠ 2) → (g_X4_sumOf_b101 x0 x1 Q K4 l3 l2 0 m27)) ∧ ((r16 = 2) → (g_X4_sumOf_b101 x0 x1 Q K4 l3 l2 1 m27)))) ∧ ((x1 = 2) → (((r16 ≠ 3) → (g_X4_sumOf_b118 x0 x1 Q K4 l3 l2 0 m27)) ∧ ((r16 = 3) → (g_X4_sumOf_b118 x0 x1 Q K4 l3 l2 1 m27)))) ∧ ((x1 = 3) → (((r16 ≠ 4) → (g_X4_waitOf x0 l3 (fun r136 m136 => Ext m27 m136 → (g_X4_sumOf_b139 x0 x1 Q K4 l3 l2 r136 m136)) m27)) ∧ ((r16 = 4) → (g_X4_sumOf_b139 x0 x1 Q K4 l3 l2 0 m27)))) ∧ ((x1 = 4) → (g_X4_passedOf x0 l3 (fun r147 m147 => Ext m27 m147 → (g_X4_ones r147 (fun r150 m150 => Ext m147 m150 → ((i32 (l2 + r150)) ∧ (∀ y154 : Int, y154 = (l2 + r150) → (g_X4_sumOf_b176 x0 x1 Q K4 y154 l3 m150)))) m147)) m27)) ∧ ((x1 ≠ 0 ∧ x1 ≠ 1 ∧ x1 ≠ 2 ∧ x1 ≠ 3 ∧ x1 ≠ 4) → (((2 ≤ r16) → (g_X4_sumOf_b174 x0 x1 Q K4 l3 l2 0 m27)) ∧ ((r16 < 2) → (g_X4_costsOf x0 l3 (fun r167 m167 => Ext m27 m167 → (g_X4_sumOf_b174 x0 x1 Q K4 l3 l2 r167 m167)) m27)))))) ∧ ((r27 = 0) → (g_X4_sumOf_b176 x0 x1 Q K4 l2 l3 m27)))) m16)) h))
theorem w_X4_sumOf_4 {G : GT} {X : ET} {h0 : Hp} {x0 x1 : Int} (HE : XE G X cX4_sumOf 5 RX4 3 70 h0) (hr : XR X (some .int)) (f0 : Lay_X4 h0 x0) {Q : Int → Hp → Prop} {K4 : Int → Int → Hp → Prop} (hK4 : ∀ (l2 l3 : Int) (h : Hp), K4 l2 l3 h → Wx G X h0 (QI Q) h 4 [some (rV x0), some (iV x1), some (iV l2), some (iV l3), none] []) {l2 l3 : Int} {h : Hp} (hw : g_X4_sumOf_L4 x0 x1 Q K4 l2 l3 h) : Wx G X h0 (QI Q) h 4 [some (rV x0), some (iV x1), some (iV l2), some (iV l3), none] [] := by
  refine Wx.start (fun EB => ?_)
  unfold g_X4_sumOf_L4 at hw
  refine x_iload_n HE 3 dX4_sumOf_4 rfl rfl ?_
  refine x_aload_n HE 0 dX4_sumOf_5 rfl rfl ?_
  refine x_gR HE dX4_sumOf_6 fd_X4_15 q1852 (Or.inl rfl) (Lay_X4.tag (f0.ext EB)) (Lay_X4_15 (f0.ext EB)).1 ?_
  refine x_iconst HE dX4_sumOf_9 (by decide) ?_
  refine x_iald HE dX4_sumOf_10 (t := 1) (by decide) ((Lay_X4_15 (f0.ext EB)).2.1) (ix_of ((Lay_X4_15 (f0.ext EB)).2.2) (by decide)) rfl ?_
  refine x_ic_ge HE 182 dX4_sumOf_11 (by decide) (fun c11 => ?_) (fun c11 => ?_)
  · have hw := hw.1 c11
    refine Wx.mask [true, true, true, false, true] (lo2 := [some (rV x0), some (iV x1), some (iV l2), none, none]) rfl ?_
    exact w_X4_sumOf_182 HE hr f0 hw
  · have hw := hw.2 c11
    refine x_aload_n HE 0 dX4_sumOf_14 rfl rfl ?_
    refine x_iload_n HE 3 dX4_sumOf_15 rfl rfl ?_
    refine x_callV HE dX4_sumOf_16 rfl (fun l => k_X4_fateOf (f0.ext EB) l hw) (As := [iV l3]) (rest := []) rfl xc10 (Lay_X4.tag (f0.ext EB)) (lw_V q2238 q2240 qs98 q129 q2241) hy_X4_fateOf rfl rfl (Nat.le_of_ble_eq_true rfl) (Nat.le_of_ble_eq_true rfl) (Nat.le_of_ble_eq_true rfl) (kkI (fun r16 m16 E16 hw => ?_))
    have hw := hw E16
    refine x_istore HE (lo' := [some (rV x0), some (iV x1), some (iV l2), some (iV l3), some (iV r16)]) dX4_sumOf_19 (Nat.le_of_ble_eq_true rfl) rfl ?_
    refine x_aload_n HE 0 dX4_sumOf_21 rfl rfl ?_
    refine x_gR HE dX4_sumOf_22 fd_X4_18 q1855 (Or.inl rfl) (Lay_X4.tag (f0.ext (EB.tr E16))) (Lay_X4_18 (f0.ext (EB.tr E16))).1 ?_
    refine x_iload_n HE 3 dX4_sumOf_25 rfl rfl ?_
    refine x_iconst HE dX4_sumOf_26 (by decide) ?_
    refine x_callS HE dX4_sumOf_27 rfl (fun l => k_X4_its ⟨(Lay_X4_18 (f0.ext (EB.tr E16))).2.1, (Lay_X4_18 (f0.ext (EB.tr E16))).2.2⟩ l hw) (As := [rV (x0 + 6), iV l3, iV 0]) (rest := []) rfl (lw_S q2168 q2169 q129 q2170) hy_X4_its.2 rfl rfl (Nat.le_of_ble_eq_true rfl) (Nat.le_of_ble_eq_true rfl) (Nat.le_of_ble_eq_true rfl) (kkI (fun r27 m27 E27 hw => ?_))
    have hw := hw E27
    refine x_if_ne HE 36 dX4_sumOf_30 (by decide) (fun c30 => ?_) (fun c30 => ?_)
    · have hw := hw.1 c30
      refine x_iload_n HE 1 dX4_sumOf_36 rfl rfl ?_
      by_cases s37_0 : x1 = 0
      · have hw := hw.1 s37_0
        refine x_tabIn HE 72 dX4_sumOf_37 0 s37_0 (by decide) rfl (by decide) ?_
        refine x_iload_n HE 2 dX4_sumOf_72 rfl rfl ?_
        refine x_iload HE dX4_sumOf_73 rfl ?_
        refine x_iconst HE dX4_sumOf_75 (by decide) ?_
        refine x_ic_ge HE 83 dX4_sumOf_76 (by decide) (fun c76 => ?_) (fun c76 => ?_)
        · have hw := hw.1 c76
          refine x_iconst HE dX4_sumOf_83 (by decide) ?_
          refine Wx.mask [true, true, false, true, false] (lo2 := [some (rV x0), some (iV x1), none, some (iV l3), none]) rfl ?_
          exact w_X4_sumOf_84 HE hr f0 hK4 hw
        · have hw := hw.2 c76
          refine x_iconst HE dX4_sumOf_79 (by decide) ?_
          refine x_goto HE 84 dX4_sumOf_80 (by decide) ?_
          refine Wx.mask [true, true, false, true, false] (lo2 := [some (rV x0), some (iV x1), none, some (iV l3), none]) rfl ?_
          exact w_X4_sumOf_84 HE hr f0 hK4 hw
      have hw := hw.2
      by_cases s37_1 : x1 = 1
      · have hw := hw.1 s37_1
        refine x_tabIn HE 89 dX4_sumOf_37 1 s37_1 (by decide) rfl (by decide) ?_
        refine x_iload_n HE 2 dX4_sumOf_89 rfl rfl ?_
        refine x_iload HE dX4_sumOf_90 rfl ?_
        refine x_iconst HE dX4_sumOf_92 (by decide) ?_
        refine x_ic_ne HE 100 dX4_sumOf_93 (by decide) (fun c93 => ?_) (fun c93 => ?_)
        · have hw := hw.1 c93
          refine x_iconst HE dX4_sumOf_100 (by decide) ?_
          refine Wx.mask [true, true, false, true, false] (lo2 := [some (rV x0), some (iV x1), none, some (iV l3), none]) rfl ?_
          exact w_X4_sumOf_101 HE hr f0 hK4 hw
        · have hw := hw.2 c93
          refine x_iconst HE dX4_sumOf_96 (by decide) ?_
          refine x_goto HE 101 dX4_sumOf_97 (by decide) ?_
          refine Wx.mask [true, true, false, true, false] (lo2 := [some (rV x0), some (iV x1), none, some (iV l3), none]) rfl ?_
          exact w_X4_sumOf_101 HE hr f0 hK4 hw
      have hw := hw.2
      by_cases s37_2 : x1 = 2
      · have hw := hw.1 s37_2
        refine x_tabIn HE 106 dX4_sumOf_37 2 s37_2 (by decide) rfl (by decide) ?_
        refine x_iload_n HE 2 dX4_sumOf_106 rfl rfl ?_
        refine x_iload HE dX4_sumOf_107 rfl ?_
        refine x_iconst HE dX4_sumOf_109 (by decide) ?_
        refine x_ic_ne HE 117 dX4_sumOf_110 (by decide) (fun c110 => ?_) (fun c110 => ?_)
        · have hw := hw.1 c110
          refine x_iconst HE dX4_sumOf_117 (by decide) ?_
          refine Wx.mask [true, true, false, true, false] (lo2 := [some (rV x0), some (iV x1), none, some (iV l3), none]) rfl ?_
          exact w_X4_sumOf_118 HE hr f0 hK4 hw
        · have hw := hw.2 c110
          refine x_iconst HE dX4_sumOf_113 (by decide) ?_
          refine x_goto HE 118 dX4_sumOf_114 (by decide) ?_
          refine Wx.mask [true, true, false, true, false] (lo2 := [some (rV x0), some (iV x1), none, some (iV l3), none]) rfl ?_
          exact w_X4_sumOf_118 HE hr f0 hK4 hw
      have hw := hw.2
      by_cases s37_3 : x1 = 3
      · have hw := hw.1 s37_3
        refine x_tabIn HE 123 dX4_sumOf_37 3 s37_3 (by decide) rfl (by decide) ?_
        refine x_iload_n HE 2 dX4_sumOf_123 rfl rfl ?_
        refine x_iload HE dX4_sumOf_124 rfl ?_
        refine x_iconst HE dX4_sumOf_126 (by decide) ?_
        refine x_ic_ne HE 134 dX4_sumOf_127 (by decide) (fun c127 => ?_) (fun c127 => ?_)
        · have hw := hw.1 c127
          refine x_aload_n HE 0 dX4_sumOf_134 rfl rfl ?_
          refine x_iload_n HE 3 dX4_sumOf_135 rfl rfl ?_
          refine x_callV HE dX4_sumOf_136 rfl (fun l => k_X4_waitOf (f0.ext (EB.tr (E16.tr E27))) l hw) (As := [iV l3]) (rest := [iV l2]) rfl xc10 (Lay_X4.tag (f0.ext (EB.tr (E16.tr E27)))) (lw_V q2246 q2248 qs99 q129 q2249) hy_X4_waitOf rfl rfl (Nat.le_of_ble_eq_true rfl) (Nat.le_of_ble_eq_true rfl) (Nat.le_of_ble_eq_true rfl) (kkI (fun r136 m136 E136 hw => ?_))
          have hw := hw E136
          refine Wx.mask [true, true, false, true, false] (lo2 := [some (rV x0), some (iV x1), none, some (iV l3), none]) rfl ?_
          exact w_X4_sumOf_139 HE hr f0 hK4 hw
        · have hw := hw.2 c127
          refine x_iconst HE dX4_sumOf_130 (by decide) ?_
          refine x_goto HE 139 dX4_sumOf_131 (by decide) ?_
          refine Wx.mask [true, true, false, true, false] (lo2 := [some (rV x0), some (iV x1), none, some (iV l3), none]) rfl ?_
          exact w_X4_sumOf_139 HE hr f0 hK4 hw
      have hw := hw.2
      by_cases s37_4 : x1 = 4
      · have hw := hw.1 s37_4
        refine x_tabIn HE 144 dX4_sumOf_37 4 s37_4 (by decide) rfl (by decide) ?_
        refine x_iload_n HE 2 dX4_sumOf_144 rfl rfl ?_
        refine x_aload_n HE 0 dX4_sumOf_145 rfl rfl ?_
        refine x_iload_n HE 3 dX4_sumOf_146 rfl rfl ?_
        refine x_callV HE dX4_sumOf_147 rfl (fun l => k_X4_passedOf (f0.ext (EB.tr (E16.tr E27))) l hw) (As := [iV l3]) (rest := [iV l2]) rfl xc10 (Lay_X4.tag (f0.ext (EB.tr (E16.tr E27)))) (lw_V q2262 q2264 qs100 q129 q2265) hy_X4_passedOf rfl rfl (Nat.le_of_ble_eq_true rfl) (Nat.le_of_ble_eq_true rfl) (Nat.le_of_ble_eq_true rfl) (kkI (fun r147 m147 E147 hw => ?_))
        have hw := hw E147
        refine x_callS HE dX4_sumOf_150 rfl (fun l => k_X4_ones  l hw) (As := [iV r147]) (rest := [iV l2]) rfl (lw_S q2289 q2290 q129 q2291) hy_X4_ones.2 rfl rfl (Nat.le_of_ble_eq_true rfl) (Nat.le_of_ble_eq_true rfl) (Nat.le_of_ble_eq_true rfl) (kkI (fun r150 m150 E150 hw => ?_))
        have hw := hw E150
        obtain ⟨v153, hw⟩ := hw
        refine x_iadd HE dX4_sumOf_153 v153 ?_
        refine x_istore_nN HE 2 (fun y154 => [some (rV x0), some (iV x1), some (iV y154), some (iV l3), some (iV r16)]) dX4_sumOf_154 rfl (Nat.le_of_ble_eq_true rfl) (fun _ => rfl) (fun y154 ey154 => ?_)
        have hw := hw y154 ey154
        refine x_goto HE 176 dX4_sumOf_155 (by decide) ?_
        refine Wx.mask [true, true, true, true, false] (lo2 := [some (rV x0), some (iV x1), some (iV y154), some (iV l3), none]) rfl ?_
        exact w_X4_sumOf_176 HE hr f0 hK4 hw
      have hw := hw.2
      have hw := hw ⟨s37_0, s37_1, s37_2, s37_3, s37_4⟩
      refine x_tabOut HE 158 dX4_sumOf_37 (tabE (tabS (b := 5) (tabS (b := 4) (tabS (b := 3) (tabS (b := 2) (tabS (b := 1) (Int.lt_or_le x1 0) (by decide) s37_0) (by decide) s37_1) (by decide) s37_2) (by decide) s37_3) (by decide) s37_4) (by decide)) (by decide) ?_
      refine x_iload_n HE 2 dX4_sumOf_158 rfl rfl ?_
      refine x_iload HE dX4_sumOf_159 rfl ?_
      refine x_iconst HE dX4_sumOf_161 (by decide) ?_
      refine x_ic_ge HE 173 dX4_sumOf_162 (by decide) (fun c162 => ?_) (fun c162 => ?_)
      · have hw := hw.1 c162
        refine x_iconst HE dX4_sumOf_173 (by decide) ?_
        refine Wx.mask [true, true, false, true, false] (lo2 := [some (rV x0), some (iV x1), none, some (iV l3), none]) rfl ?_
        exact w_X4_sumOf_174 HE hr f0 hK4 hw
      · have hw := hw.2 c162
        refine x_aload_n HE 0 dX4_sumOf_165 rfl rfl ?_
        refine x_iload_n HE 3 dX4_sumOf_166 rfl rfl ?_
        refine x_callV HE dX4_sumOf_167 rfl (fun l => k_X4_costsOf (f0.ext (EB.tr (E16.tr E27))) l hw) (As := [iV l3]) (rest := [iV l2]) rfl xc10 (Lay_X4.tag (f0.ext (EB.tr (E16.tr E27)))) (lw_V q2214 q2216 qs93 q129 q2217) hy_X4_costsOf rfl rfl (Nat.le_of_ble_eq_true rfl) (Nat.le_of_ble_eq_true rfl) (Nat.le_of_ble_eq_true rfl) (kkI (fun r167 m167 E167 hw => ?_))
        have hw := hw E167
        refine x_goto HE 174 dX4_sumOf_170 (by decide) ?_
        refine Wx.mask [true, true, false, true, false] (lo2 := [some (rV x0), some (iV x1), none, some (iV l3), none]) rfl ?_
        exact w_X4_sumOf_174 HE hr f0 hK4 hw
    · have hw := hw.2 c30
      refine x_goto HE 176 dX4_sumOf_33 (by decide) ?_
      refine Wx.mask [true, true, true, true, false] (lo2 := [some (rV x0), some (iV x1), some (iV l2), some (iV l3), none]) rfl ?_
      exact w_X4_sumOf_176 HE hr f0 hK4 hw
theorem wl_X4_sumOf_4 {G : GT} {X : ET} {h0 : Hp} {x0 x1 : Int} (HE : XE G X cX4_sumOf 5 RX4 3 70 h0) (hr : XR X (some .int)) (f0 : Lay_X4 h0 x0) {Q : Int → Hp → Prop} {l2 l3 : Int} {h : Hp} (hw : Lp2 (g_X4_sumOf_L4 x0 x1 Q) l2 l3 h) : Wx G X h0 (QI Q) h 4 [some (rV x0), some (iV x1), some (iV l2), some (iV l3), none] [] := by
  obtain ⟨n, hw⟩ := hw
  induction n generalizing l2 l3 h with
  | zero => exact hw.elim
  | succ n ih => exact w_X4_sumOf_4 HE hr f0 (fun _ _ _ hk => ih hk) hw
def g_X4_sumOf (x0 x1 : Int) (Q : Int → Hp → Prop) (h : Hp) : Prop :=
  Lp2 (g_X4_sumOf_L4 x0 x1 Q) 0 0 h
theorem w_X4_sumOf_0 {G : GT} {X : ET} {h0 : Hp} {x0 x1 : Int} (HE : XE G X cX4_sumOf 5 RX4 3 70 h0) (hr : XR X (some .int)) (f0 : Lay_X4 h0 x0) {Q : Int → Hp → Prop} {h : Hp} (hw : g_X4_sumOf x0 x1 Q h) : Wx G X h0 (QI Q) h 0 [some (rV x0), some (iV x1), none, none, none] [] := by
  refine Wx.start (fun EB => ?_)
  unfold g_X4_sumOf at hw
  refine x_iconst HE dX4_sumOf_0 (by decide) ?_
  refine x_istore_n HE 2 (lo' := [some (rV x0), some (iV x1), some (iV 0), none, none]) dX4_sumOf_1 rfl (Nat.le_of_ble_eq_true rfl) rfl ?_
  refine x_iconst HE dX4_sumOf_2 (by decide) ?_
  refine x_istore_n HE 3 (lo' := [some (rV x0), some (iV x1), some (iV 0), some (iV 0), none]) dX4_sumOf_3 rfl (Nat.le_of_ble_eq_true rfl) rfl ?_
  exact wl_X4_sumOf_4 HE hr f0 hw
theorem k_X4_sumOf {G : GT} {x0 x1 : Int} {Q : Int → Hp → Prop} {h : Hp} (f0 : Lay_X4 h x0) (l : Launch) (hw : g_X4_sumOf x0 x1 Q h) : XM G l yX4_sumOf cX4_sumOf 5 (some .int) 3 70 [rV x0, iV x1] (QI Q) h :=
  XM.of (by decide) (Nat.le_of_ble_eq_true rfl) (fun X HE hr hn => w_X4_sumOf_0 HE hr f0 hw)
def g_X4_sum_b20 (x0 x1 : Int) (Q : Int → Hp → Prop) (h : Hp) : Prop :=
  g_X4_no x0 1 (fun r22 m22 => Ext h m22 → (Q r22 m22)) h
theorem w_X4_sum_20 {G : GT} {X : ET} {h0 : Hp} {x0 x1 : Int} (HE : XE G X cX4_sum 2 RX4 7 166 h0) (hr : XR X (some .int)) (f0 : Lay_X4 h0 x0) {Q : Int → Hp → Prop} {h : Hp} (hw : g_X4_sum_b20 x0 x1 Q  h) : Wx G X h0 (QI Q) h 20 [some (rV x0), some (iV x1)] [] := by
  refine Wx.start (fun EB => ?_)
  unfold g_X4_sum_b20 at hw
  refine x_aload_n HE 0 dX4_sum_20 rfl rfl ?_
  refine x_iconst HE dX4_sum_21 (by decide) ?_
  refine x_callV HE dX4_sum_22 rfl (fun l => k_X4_no (f0.ext EB) l hw) (As := [iV 1]) (rest := []) rfl xc10 (Lay_X4.tag (f0.ext EB)) (lw_V q1962 q1964 qs56 q129 q1965) hy_X4_no rfl rfl (Nat.le_of_ble_eq_true rfl) (Nat.le_of_ble_eq_true rfl) (Nat.le_of_ble_eq_true rfl) (kkI (fun r22 m22 E22 hw => ?_))
  have hw := hw E22
  exact x_iret HE hr dX4_sum_25 hw
def g_X4_sum (x0 x1 : Int) (Q : Int → Hp → Prop) (h : Hp) : Prop :=
  g_X4_good x0 (fun m1 => Ext h m1 → ((((hF m1 x0 14) = 0) → (g_X4_sum_b20 x0 x1 Q m1)) ∧ (((hF m1 x0 14) ≠ 0) → (g_X4_within x1 0 5 (fun r14 m14 => Ext m1 m14 → (((r14 ≠ 0) → (g_X4_tellEvening x0 (fun m27 => Ext m14 m27 → (g_X4_sumOf x0 x1 (fun r32 m32 => Ext m27 m32 → (Q r32 m32)) m27)) m14)) ∧ ((r14 = 0) → (g_X4_sum_b20 x0 x1 Q m14)))) m1)))) h
theorem w_X4_sum_0 {G : GT} {X : ET} {h0 : Hp} {x0 x1 : Int} (HE : XE G X cX4_sum 2 RX4 7 166 h0) (hr : XR X (some .int)) (f0 : Lay_X4 h0 x0) {Q : Int → Hp → Prop} {h : Hp} (hw : g_X4_sum x0 x1 Q h) : Wx G X h0 (QI Q) h 0 [some (rV x0), some (iV x1)] [] := by
  refine Wx.start (fun EB => ?_)
  unfold g_X4_sum at hw
  refine x_aload_n HE 0 dX4_sum_0 rfl rfl ?_
  refine x_callV HE dX4_sum_1 rfl (fun l => k_X4_good (f0.ext EB) l hw) (As := []) (rest := []) rfl xc10 (Lay_X4.tag (f0.ext EB)) (lw_V q1955 q1957 qs55 q129 q1958) hy_X4_good rfl rfl (Nat.le_of_ble_eq_true rfl) (Nat.le_of_ble_eq_true rfl) (Nat.le_of_ble_eq_true rfl) (kkV (fun m1 E1 hw => ?_))
  have hw := hw E1
  refine x_aload_n HE 0 dX4_sum_4 rfl rfl ?_
  refine x_gI HE dX4_sum_5 fd_X4_14 q1851 (Or.inl rfl) (Lay_X4.tag (f0.ext (EB.tr E1))) rfl ?_
  refine x_if_eq HE 20 dX4_sum_8 (by decide) (fun c8 => ?_) (fun c8 => ?_)
  · have hw := hw.1 c8
    exact w_X4_sum_20 HE hr f0 hw
  · have hw := hw.2 c8
    refine x_iload_n HE 1 dX4_sum_11 rfl rfl ?_
    refine x_iconst HE dX4_sum_12 (by decide) ?_
    refine x_iconst HE dX4_sum_13 (by decide) ?_
    refine x_callS HE dX4_sum_14 rfl (fun l => k_X4_within  l hw) (As := [iV x1, iV 0, iV 5]) (rest := []) rfl (lw_S q1959 q1960 q129 q1961) hy_X4_within.2 rfl rfl (Nat.le_of_ble_eq_true rfl) (Nat.le_of_ble_eq_true rfl) (Nat.le_of_ble_eq_true rfl) (kkI (fun r14 m14 E14 hw => ?_))
    have hw := hw E14
    refine x_if_ne HE 26 dX4_sum_17 (by decide) (fun c17 => ?_) (fun c17 => ?_)
    · have hw := hw.1 c17
      refine x_aload_n HE 0 dX4_sum_26 rfl rfl ?_
      refine x_callV HE dX4_sum_27 rfl (fun l => k_X4_tellEvening (f0.ext (EB.tr (E1.tr E14))) l hw) (As := []) (rest := []) rfl xc10 (Lay_X4.tag (f0.ext (EB.tr (E1.tr E14)))) (lw_V q2222 q2224 qs94 q129 q2225) hy_X4_tellEvening rfl rfl (Nat.le_of_ble_eq_true rfl) (Nat.le_of_ble_eq_true rfl) (Nat.le_of_ble_eq_true rfl) (kkV (fun m27 E27 hw => ?_))
      have hw := hw E27
      refine x_aload_n HE 0 dX4_sum_30 rfl rfl ?_
      refine x_iload_n HE 1 dX4_sum_31 rfl rfl ?_
      refine x_callV HE dX4_sum_32 rfl (fun l => k_X4_sumOf (f0.ext (EB.tr (E1.tr (E14.tr E27)))) l hw) (As := [iV x1]) (rest := []) rfl xc10 (Lay_X4.tag (f0.ext (EB.tr (E1.tr (E14.tr E27))))) (lw_V q2285 q2287 qs103 q129 q2288) hy_X4_sumOf rfl rfl (Nat.le_of_ble_eq_true rfl) (Nat.le_of_ble_eq_true rfl) (Nat.le_of_ble_eq_true rfl) (kkI (fun r32 m32 E32 hw => ?_))
      have hw := hw E32
      exact x_iret HE hr dX4_sum_35 hw
    · have hw := hw.2 c17
      exact w_X4_sum_20 HE hr f0 hw
theorem k_X4_sum {G : GT} {x0 x1 : Int} {Q : Int → Hp → Prop} {h : Hp} (f0 : Lay_X4 h x0) (l : Launch) (hw : g_X4_sum x0 x1 Q h) : XM G l yX4_sum cX4_sum 2 (some .int) 7 166 [rV x0, iV x1] (QI Q) h :=
  XM.of (by decide) (Nat.le_of_ble_eq_true rfl) (fun X HE hr hn => w_X4_sum_0 HE hr f0 hw)
def g_X4_served_b51 (x0 x1 : Int) (Q : Int → Hp → Prop) (s0 : Int) (h : Hp) : Prop :=
  Q s0 h
theorem w_X4_served_51 {G : GT} {X : ET} {h0 : Hp} {x0 x1 : Int} (HE : XE G X cX4_served 2 RX4 7 166 h0) (hr : XR X (some .int)) (f0 : Lay_X4 h0 x0) {Q : Int → Hp → Prop} {s0 : Int} {h : Hp} (hw : g_X4_served_b51 x0 x1 Q s0 h) : Wx G X h0 (QI Q) h 51 [some (rV x0), some (iV x1)] [iV s0] := by
  refine Wx.start (fun EB => ?_)
  unfold g_X4_served_b51 at hw
  exact x_iret HE hr dX4_served_51 hw
def g_X4_served_b15 (x0 x1 : Int) (Q : Int → Hp → Prop) (h : Hp) : Prop :=
  g_X4_no x0 1 (fun r17 m17 => Ext h m17 → (Q r17 m17)) h
theorem w_X4_served_15 {G : GT} {X : ET} {h0 : Hp} {x0 x1 : Int} (HE : XE G X cX4_served 2 RX4 7 166 h0) (hr : XR X (some .int)) (f0 : Lay_X4 h0 x0) {Q : Int → Hp → Prop} {h : Hp} (hw : g_X4_served_b15 x0 x1 Q  h) : Wx G X h0 (QI Q) h 15 [some (rV x0), some (iV x1)] [] := by
  refine Wx.start (fun EB => ?_)
  unfold g_X4_served_b15 at hw
  refine x_aload_n HE 0 dX4_served_15 rfl rfl ?_
  refine x_iconst HE dX4_served_16 (by decide) ?_
  refine x_callV HE dX4_served_17 rfl (fun l => k_X4_no (f0.ext EB) l hw) (As := [iV 1]) (rest := []) rfl xc10 (Lay_X4.tag (f0.ext EB)) (lw_V q1962 q1964 qs56 q129 q1965) hy_X4_no rfl rfl (Nat.le_of_ble_eq_true rfl) (Nat.le_of_ble_eq_true rfl) (Nat.le_of_ble_eq_true rfl) (kkI (fun r17 m17 E17 hw => ?_))
  have hw := hw E17
  exact x_iret HE hr dX4_served_20 hw
def g_X4_served (x0 x1 : Int) (Q : Int → Hp → Prop) (h : Hp) : Prop :=
  g_X4_good x0 (fun m1 => Ext h m1 → ((((hF m1 x0 14) = 0) → (g_X4_served_b15 x0 x1 Q m1)) ∧ (((hF m1 x0 14) ≠ 0) → (((0 ≤ x1) → (g_X4_tellEvening x0 (fun m22 => Ext m1 m22 → ((((hA m22 (x0 + 6) 1) ≤ x1) → (g_X4_no x0 1 (fun r48 m48 => Ext m22 m48 → (g_X4_served_b51 x0 x1 Q r48 m48)) m22)) ∧ ((x1 < (hA m22 (x0 + 6) 1)) → ((i32 (2 + x1)) ∧ (((0 : Int) ≤ (2 + x1) ∧ (2 + x1) < 108) ∧ (g_X4_served_b51 x0 x1 Q (hA m22 (x0 + 6) (2 + x1)) m22)))))) m1)) ∧ ((x1 < 0) → (g_X4_served_b15 x0 x1 Q m1)))))) h
theorem w_X4_served_0 {G : GT} {X : ET} {h0 : Hp} {x0 x1 : Int} (HE : XE G X cX4_served 2 RX4 7 166 h0) (hr : XR X (some .int)) (f0 : Lay_X4 h0 x0) {Q : Int → Hp → Prop} {h : Hp} (hw : g_X4_served x0 x1 Q h) : Wx G X h0 (QI Q) h 0 [some (rV x0), some (iV x1)] [] := by
  refine Wx.start (fun EB => ?_)
  unfold g_X4_served at hw
  refine x_aload_n HE 0 dX4_served_0 rfl rfl ?_
  refine x_callV HE dX4_served_1 rfl (fun l => k_X4_good (f0.ext EB) l hw) (As := []) (rest := []) rfl xc10 (Lay_X4.tag (f0.ext EB)) (lw_V q1955 q1957 qs55 q129 q1958) hy_X4_good rfl rfl (Nat.le_of_ble_eq_true rfl) (Nat.le_of_ble_eq_true rfl) (Nat.le_of_ble_eq_true rfl) (kkV (fun m1 E1 hw => ?_))
  have hw := hw E1
  refine x_aload_n HE 0 dX4_served_4 rfl rfl ?_
  refine x_gI HE dX4_served_5 fd_X4_14 q1851 (Or.inl rfl) (Lay_X4.tag (f0.ext (EB.tr E1))) rfl ?_
  refine x_if_eq HE 15 dX4_served_8 (by decide) (fun c8 => ?_) (fun c8 => ?_)
  · have hw := hw.1 c8
    exact w_X4_served_15 HE hr f0 hw
  · have hw := hw.2 c8
    refine x_iload_n HE 1 dX4_served_11 rfl rfl ?_
    refine x_if_ge HE 21 dX4_served_12 (by decide) (fun c12 => ?_) (fun c12 => ?_)
    · have hw := hw.1 c12
      refine x_aload_n HE 0 dX4_served_21 rfl rfl ?_
      refine x_callV HE dX4_served_22 rfl (fun l => k_X4_tellEvening (f0.ext (EB.tr E1)) l hw) (As := []) (rest := []) rfl xc10 (Lay_X4.tag (f0.ext (EB.tr E1))) (lw_V q2222 q2224 qs94 q129 q2225) hy_X4_tellEvening rfl rfl (Nat.le_of_ble_eq_true rfl) (Nat.le_of_ble_eq_true rfl) (Nat.le_of_ble_eq_true rfl) (kkV (fun m22 E22 hw => ?_))
      have hw := hw E22
      refine x_iload_n HE 1 dX4_served_25 rfl rfl ?_
      refine x_aload_n HE 0 dX4_served_26 rfl rfl ?_
      refine x_gR HE dX4_served_27 fd_X4_18 q1855 (Or.inl rfl) (Lay_X4.tag (f0.ext (EB.tr (E1.tr E22)))) (Lay_X4_18 (f0.ext (EB.tr (E1.tr E22)))).1 ?_
      refine x_iconst HE dX4_served_30 (by decide) ?_
      refine x_iald HE dX4_served_31 (t := 1) (by decide) ((Lay_X4_18 (f0.ext (EB.tr (E1.tr E22)))).2.1) (ix_of ((Lay_X4_18 (f0.ext (EB.tr (E1.tr E22)))).2.2) (by decide)) rfl ?_
      refine x_ic_ge HE 46 dX4_served_32 (by decide) (fun c32 => ?_) (fun c32 => ?_)
      · have hw := hw.1 c32
        refine x_aload_n HE 0 dX4_served_46 rfl rfl ?_
        refine x_iconst HE dX4_served_47 (by decide) ?_
        refine x_callV HE dX4_served_48 rfl (fun l => k_X4_no (f0.ext (EB.tr (E1.tr E22))) l hw) (As := [iV 1]) (rest := []) rfl xc10 (Lay_X4.tag (f0.ext (EB.tr (E1.tr E22)))) (lw_V q1962 q1964 qs56 q129 q1965) hy_X4_no rfl rfl (Nat.le_of_ble_eq_true rfl) (Nat.le_of_ble_eq_true rfl) (Nat.le_of_ble_eq_true rfl) (kkI (fun r48 m48 E48 hw => ?_))
        have hw := hw E48
        exact w_X4_served_51 HE hr f0 hw
      · have hw := hw.2 c32
        refine x_aload_n HE 0 dX4_served_35 rfl rfl ?_
        refine x_gR HE dX4_served_36 fd_X4_18 q1855 (Or.inl rfl) (Lay_X4.tag (f0.ext (EB.tr (E1.tr E22)))) (Lay_X4_18 (f0.ext (EB.tr (E1.tr E22)))).1 ?_
        refine x_iconst HE dX4_served_39 (by decide) ?_
        refine x_iload_n HE 1 dX4_served_40 rfl rfl ?_
        obtain ⟨v41, hw⟩ := hw
        refine x_iadd HE dX4_served_41 v41 ?_
        obtain ⟨i42, hw⟩ := hw
        refine x_iald HE dX4_served_42 (t := 1) (by decide) ((Lay_X4_18 (f0.ext (EB.tr (E1.tr E22)))).2.1) (ix_of ((Lay_X4_18 (f0.ext (EB.tr (E1.tr E22)))).2.2) i42) rfl ?_
        refine x_goto HE 51 dX4_served_43 (by decide) ?_
        exact w_X4_served_51 HE hr f0 hw
    · have hw := hw.2 c12
      exact w_X4_served_15 HE hr f0 hw
theorem k_X4_served {G : GT} {x0 x1 : Int} {Q : Int → Hp → Prop} {h : Hp} (f0 : Lay_X4 h x0) (l : Launch) (hw : g_X4_served x0 x1 Q h) : XM G l yX4_served cX4_served 2 (some .int) 7 166 [rV x0, iV x1] (QI Q) h :=
  XM.of (by decide) (Nat.le_of_ble_eq_true rfl) (fun X HE hr hn => w_X4_served_0 HE hr f0 hw)
def g_X4_waitingAt (x0 x1 : Int) (Q : Int → Hp → Prop) (h : Hp) : Prop :=
  g_X4_good x0 (fun m1 => Ext h m1 → ((((hF m1 x0 14) ≠ 0) → (g_X4_within x1 (hA m1 (x0 + 5) 0) (hA m1 (x0 + 3) 2) (fun r30 m30 => Ext m1 m30 → (((r30 ≠ 0) → (g_X4_asTold x0 (fun m43 => Ext m30 m43 → (∀ m48 : Hp, m48 = setF m43 x0 26 x1 → (g_X4_evening x0 (fun m52 => Ext m48 m52 → (g_X4_manyWaiting x0 (x0 + 6) (fun r60 m60 => Ext m52 m60 → (Q r60 m60)) m52)) m48))) m30)) ∧ ((r30 = 0) → (g_X4_no x0 2 (fun r38 m38 => Ext m30 m38 → (Q r38 m38)) m30)))) m1)) ∧ (((hF m1 x0 14) = 0) → (g_X4_no x0 1 (fun r13 m13 => Ext m1 m13 → (Q r13 m13)) m1)))) h
theorem w_X4_waitingAt_0 {G : GT} {X : ET} {h0 : Hp} {x0 x1 : Int} (HE : XE G X cX4_waitingAt 2 RX4 6 146 h0) (hr : XR X (some .int)) (f0 : Lay_X4 h0 x0) {Q : Int → Hp → Prop} {h : Hp} (hw : g_X4_waitingAt x0 x1 Q h) : Wx G X h0 (QI Q) h 0 [some (rV x0), some (iV x1)] [] := by
  refine Wx.start (fun EB => ?_)
  unfold g_X4_waitingAt at hw
  refine x_aload_n HE 0 dX4_waitingAt_0 rfl rfl ?_
  refine x_callV HE dX4_waitingAt_1 rfl (fun l => k_X4_good (f0.ext EB) l hw) (As := []) (rest := []) rfl xc10 (Lay_X4.tag (f0.ext EB)) (lw_V q1955 q1957 qs55 q129 q1958) hy_X4_good rfl rfl (Nat.le_of_ble_eq_true rfl) (Nat.le_of_ble_eq_true rfl) (Nat.le_of_ble_eq_true rfl) (kkV (fun m1 E1 hw => ?_))
  have hw := hw E1
  refine x_aload_n HE 0 dX4_waitingAt_4 rfl rfl ?_
  refine x_gI HE dX4_waitingAt_5 fd_X4_14 q1851 (Or.inl rfl) (Lay_X4.tag (f0.ext (EB.tr E1))) rfl ?_
  refine x_if_ne HE 17 dX4_waitingAt_8 (by decide) (fun c8 => ?_) (fun c8 => ?_)
  · have hw := hw.1 c8
    refine x_iload_n HE 1 dX4_waitingAt_17 rfl rfl ?_
    refine x_aload_n HE 0 dX4_waitingAt_18 rfl rfl ?_
    refine x_gR HE dX4_waitingAt_19 fd_X4_17 q1854 (Or.inl rfl) (Lay_X4.tag (f0.ext (EB.tr E1))) (Lay_X4_17 (f0.ext (EB.tr E1))).1 ?_
    refine x_iconst HE dX4_waitingAt_22 (by decide) ?_
    refine x_iald HE dX4_waitingAt_23 (t := 1) (by decide) ((Lay_X4_17 (f0.ext (EB.tr E1))).2.1) (ix_of ((Lay_X4_17 (f0.ext (EB.tr E1))).2.2) (by decide)) rfl ?_
    refine x_aload_n HE 0 dX4_waitingAt_24 rfl rfl ?_
    refine x_gR HE dX4_waitingAt_25 fd_X4_15 q1852 (Or.inl rfl) (Lay_X4.tag (f0.ext (EB.tr E1))) (Lay_X4_15 (f0.ext (EB.tr E1))).1 ?_
    refine x_iconst HE dX4_waitingAt_28 (by decide) ?_
    refine x_iald HE dX4_waitingAt_29 (t := 1) (by decide) ((Lay_X4_15 (f0.ext (EB.tr E1))).2.1) (ix_of ((Lay_X4_15 (f0.ext (EB.tr E1))).2.2) (by decide)) rfl ?_
    refine x_callS HE dX4_waitingAt_30 rfl (fun l => k_X4_within  l hw) (As := [iV x1, iV (hA m1 (x0 + 5) 0), iV (hA m1 (x0 + 3) 2)]) (rest := []) rfl (lw_S q1959 q1960 q129 q1961) hy_X4_within.2 rfl rfl (Nat.le_of_ble_eq_true rfl) (Nat.le_of_ble_eq_true rfl) (Nat.le_of_ble_eq_true rfl) (kkI (fun r30 m30 E30 hw => ?_))
    have hw := hw E30
    refine x_if_ne HE 42 dX4_waitingAt_33 (by decide) (fun c33 => ?_) (fun c33 => ?_)
    · have hw := hw.1 c33
      refine x_aload_n HE 0 dX4_waitingAt_42 rfl rfl ?_
      refine x_callV HE dX4_waitingAt_43 rfl (fun l => k_X4_asTold (f0.ext (EB.tr (E1.tr E30))) l hw) (As := []) (rest := []) rfl xc10 (Lay_X4.tag (f0.ext (EB.tr (E1.tr E30)))) (lw_V q2116 q2118 qs80 q129 q2119) hy_X4_asTold rfl rfl (Nat.le_of_ble_eq_true rfl) (Nat.le_of_ble_eq_true rfl) (Nat.le_of_ble_eq_true rfl) (kkV (fun m43 E43 hw => ?_))
      have hw := hw E43
      refine x_aload_n HE 0 dX4_waitingAt_46 rfl rfl ?_
      refine x_iload_n HE 1 dX4_waitingAt_47 rfl rfl ?_
      refine x_pI HE dX4_waitingAt_48 fd_X4_26 q1863 (Or.inl rfl) (Or.inl rfl) (nf_int _) (Lay_X4.tag (f0.ext (EB.tr (E1.tr (E30.tr E43))))) (nro (by decide)) (Or.inl nf_X4_26) (fun m48 em48 E48 => ?_)
      have hw := hw m48 em48
      refine x_aload_n HE 0 dX4_waitingAt_51 rfl rfl ?_
      refine x_callV HE dX4_waitingAt_52 rfl (fun l => k_X4_evening (f0.ext (EB.tr (E1.tr (E30.tr (E43.tr E48))))) l hw) (As := []) (rest := []) rfl xc10 (Lay_X4.tag (f0.ext (EB.tr (E1.tr (E30.tr (E43.tr E48)))))) (lw_V q2226 q2228 qs95 q129 q2229) hy_X4_evening rfl rfl (Nat.le_of_ble_eq_true rfl) (Nat.le_of_ble_eq_true rfl) (Nat.le_of_ble_eq_true rfl) (kkV (fun m52 E52 hw => ?_))
      have hw := hw E52
      refine x_aload_n HE 0 dX4_waitingAt_55 rfl rfl ?_
      refine x_aload_n HE 0 dX4_waitingAt_56 rfl rfl ?_
      refine x_gR HE dX4_waitingAt_57 fd_X4_18 q1855 (Or.inl rfl) (Lay_X4.tag (f0.ext (EB.tr (E1.tr (E30.tr (E43.tr (E48.tr E52))))))) (Lay_X4_18 (f0.ext (EB.tr (E1.tr (E30.tr (E43.tr (E48.tr E52))))))).1 ?_
      refine x_callV HE dX4_waitingAt_60 rfl (fun l => k_X4_manyWaiting (f0.ext (EB.tr (E1.tr (E30.tr (E43.tr (E48.tr E52)))))) ⟨(Lay_X4_18 (f0.ext (EB.tr (E1.tr (E30.tr (E43.tr (E48.tr E52))))))).2.1, (Lay_X4_18 (f0.ext (EB.tr (E1.tr (E30.tr (E43.tr (E48.tr E52))))))).2.2⟩ l hw) (As := [rV (x0 + 6)]) (rest := []) rfl xc10 (Lay_X4.tag (f0.ext (EB.tr (E1.tr (E30.tr (E43.tr (E48.tr E52))))))) (lw_V q2175 q2177 qs87 q129 q2178) hy_X4_manyWaiting rfl rfl (Nat.le_of_ble_eq_true rfl) (Nat.le_of_ble_eq_true rfl) (Nat.le_of_ble_eq_true rfl) (kkI (fun r60 m60 E60 hw => ?_))
      have hw := hw E60
      exact x_iret HE hr dX4_waitingAt_63 hw
    · have hw := hw.2 c33
      refine x_aload_n HE 0 dX4_waitingAt_36 rfl rfl ?_
      refine x_iconst HE dX4_waitingAt_37 (by decide) ?_
      refine x_callV HE dX4_waitingAt_38 rfl (fun l => k_X4_no (f0.ext (EB.tr (E1.tr E30))) l hw) (As := [iV 2]) (rest := []) rfl xc10 (Lay_X4.tag (f0.ext (EB.tr (E1.tr E30)))) (lw_V q1962 q1964 qs56 q129 q1965) hy_X4_no rfl rfl (Nat.le_of_ble_eq_true rfl) (Nat.le_of_ble_eq_true rfl) (Nat.le_of_ble_eq_true rfl) (kkI (fun r38 m38 E38 hw => ?_))
      have hw := hw E38
      exact x_iret HE hr dX4_waitingAt_41 hw
  · have hw := hw.2 c8
    refine x_aload_n HE 0 dX4_waitingAt_11 rfl rfl ?_
    refine x_iconst HE dX4_waitingAt_12 (by decide) ?_
    refine x_callV HE dX4_waitingAt_13 rfl (fun l => k_X4_no (f0.ext (EB.tr E1)) l hw) (As := [iV 1]) (rest := []) rfl xc10 (Lay_X4.tag (f0.ext (EB.tr E1))) (lw_V q1962 q1964 qs56 q129 q1965) hy_X4_no rfl rfl (Nat.le_of_ble_eq_true rfl) (Nat.le_of_ble_eq_true rfl) (Nat.le_of_ble_eq_true rfl) (kkI (fun r13 m13 E13 hw => ?_))
    have hw := hw E13
    exact x_iret HE hr dX4_waitingAt_16 hw
theorem k_X4_waitingAt {G : GT} {x0 x1 : Int} {Q : Int → Hp → Prop} {h : Hp} (f0 : Lay_X4 h x0) (l : Launch) (hw : g_X4_waitingAt x0 x1 Q h) : XM G l yX4_waitingAt cX4_waitingAt 2 (some .int) 6 146 [rV x0, iV x1] (QI Q) h :=
  XM.of (by decide) (Nat.le_of_ble_eq_true rfl) (fun X HE hr hn => w_X4_waitingAt_0 HE hr f0 hw)
def g_X4_bell_b20 (x0 x1 x2 : Int) (Q : Int → Hp → Prop) (h : Hp) : Prop :=
  g_X4_no x0 1 (fun r22 m22 => Ext h m22 → (Q r22 m22)) h
theorem w_X4_bell_20 {G : GT} {X : ET} {h0 : Hp} {x0 x1 x2 : Int} (HE : XE G X cX4_bell 3 RX4 6 146 h0) (hr : XR X (some .int)) (f0 : Lay_X4 h0 x0) {Q : Int → Hp → Prop} {h : Hp} (hw : g_X4_bell_b20 x0 x1 x2 Q  h) : Wx G X h0 (QI Q) h 20 [some (rV x0), some (iV x1), some (iV x2)] [] := by
  refine Wx.start (fun EB => ?_)
  unfold g_X4_bell_b20 at hw
  refine x_aload_n HE 0 dX4_bell_20 rfl rfl ?_
  refine x_iconst HE dX4_bell_21 (by decide) ?_
  refine x_callV HE dX4_bell_22 rfl (fun l => k_X4_no (f0.ext EB) l hw) (As := [iV 1]) (rest := []) rfl xc10 (Lay_X4.tag (f0.ext EB)) (lw_V q1962 q1964 qs56 q129 q1965) hy_X4_no rfl rfl (Nat.le_of_ble_eq_true rfl) (Nat.le_of_ble_eq_true rfl) (Nat.le_of_ble_eq_true rfl) (kkI (fun r22 m22 E22 hw => ?_))
  have hw := hw E22
  exact x_iret HE hr dX4_bell_25 hw
def g_X4_bell (x0 x1 x2 : Int) (Q : Int → Hp → Prop) (h : Hp) : Prop :=
  g_X4_good x0 (fun m1 => Ext h m1 → ((((hF m1 x0 14) = 0) → (g_X4_bell_b20 x0 x1 x2 Q m1)) ∧ (((hF m1 x0 14) ≠ 0) → (g_X4_within x2 0 5 (fun r14 m14 => Ext m1 m14 → (((r14 ≠ 0) → (g_X4_within x1 (hA m14 (x0 + 5) 0) 900 (fun r36 m36 => Ext m14 m36 → (((r36 ≠ 0) → (g_X4_asTold x0 (fun m49 => Ext m36 m49 → (∀ m54 : Hp, m54 = setF m49 x0 26 x1 → (g_X4_evening x0 (fun m58 => Ext m54 m58 → (g_X4_sumOf x0 x2 (fun r63 m63 => Ext m58 m63 → (Q r63 m63)) m58)) m54))) m36)) ∧ ((r36 = 0) → (g_X4_no x0 2 (fun r44 m44 => Ext m36 m44 → (Q r44 m44)) m36)))) m14)) ∧ ((r14 = 0) → (g_X4_bell_b20 x0 x1 x2 Q m14)))) m1)))) h
theorem w_X4_bell_0 {G : GT} {X : ET} {h0 : Hp} {x0 x1 x2 : Int} (HE : XE G X cX4_bell 3 RX4 6 146 h0) (hr : XR X (some .int)) (f0 : Lay_X4 h0 x0) {Q : Int → Hp → Prop} {h : Hp} (hw : g_X4_bell x0 x1 x2 Q h) : Wx G X h0 (QI Q) h 0 [some (rV x0), some (iV x1), some (iV x2)] [] := by
  refine Wx.start (fun EB => ?_)
  unfold g_X4_bell at hw
  refine x_aload_n HE 0 dX4_bell_0 rfl rfl ?_
  refine x_callV HE dX4_bell_1 rfl (fun l => k_X4_good (f0.ext EB) l hw) (As := []) (rest := []) rfl xc10 (Lay_X4.tag (f0.ext EB)) (lw_V q1955 q1957 qs55 q129 q1958) hy_X4_good rfl rfl (Nat.le_of_ble_eq_true rfl) (Nat.le_of_ble_eq_true rfl) (Nat.le_of_ble_eq_true rfl) (kkV (fun m1 E1 hw => ?_))
  have hw := hw E1
  refine x_aload_n HE 0 dX4_bell_4 rfl rfl ?_
  refine x_gI HE dX4_bell_5 fd_X4_14 q1851 (Or.inl rfl) (Lay_X4.tag (f0.ext (EB.tr E1))) rfl ?_
  refine x_if_eq HE 20 dX4_bell_8 (by decide) (fun c8 => ?_) (fun c8 => ?_)
  · have hw := hw.1 c8
    exact w_X4_bell_20 HE hr f0 hw
  · have hw := hw.2 c8
    refine x_iload_n HE 2 dX4_bell_11 rfl rfl ?_
    refine x_iconst HE dX4_bell_12 (by decide) ?_
    refine x_iconst HE dX4_bell_13 (by decide) ?_
    refine x_callS HE dX4_bell_14 rfl (fun l => k_X4_within  l hw) (As := [iV x2, iV 0, iV 5]) (rest := []) rfl (lw_S q1959 q1960 q129 q1961) hy_X4_within.2 rfl rfl (Nat.le_of_ble_eq_true rfl) (Nat.le_of_ble_eq_true rfl) (Nat.le_of_ble_eq_true rfl) (kkI (fun r14 m14 E14 hw => ?_))
    have hw := hw E14
    refine x_if_ne HE 26 dX4_bell_17 (by decide) (fun c17 => ?_) (fun c17 => ?_)
    · have hw := hw.1 c17
      refine x_iload_n HE 1 dX4_bell_26 rfl rfl ?_
      refine x_aload_n HE 0 dX4_bell_27 rfl rfl ?_
      refine x_gR HE dX4_bell_28 fd_X4_17 q1854 (Or.inl rfl) (Lay_X4.tag (f0.ext (EB.tr (E1.tr E14)))) (Lay_X4_17 (f0.ext (EB.tr (E1.tr E14)))).1 ?_
      refine x_iconst HE dX4_bell_31 (by decide) ?_
      refine x_iald HE dX4_bell_32 (t := 1) (by decide) ((Lay_X4_17 (f0.ext (EB.tr (E1.tr E14)))).2.1) (ix_of ((Lay_X4_17 (f0.ext (EB.tr (E1.tr E14)))).2.2) (by decide)) rfl ?_
      refine x_sipush HE dX4_bell_33 (by decide) ?_
      refine x_callS HE dX4_bell_36 rfl (fun l => k_X4_within  l hw) (As := [iV x1, iV (hA m14 (x0 + 5) 0), iV 900]) (rest := []) rfl (lw_S q1959 q1960 q129 q1961) hy_X4_within.2 rfl rfl (Nat.le_of_ble_eq_true rfl) (Nat.le_of_ble_eq_true rfl) (Nat.le_of_ble_eq_true rfl) (kkI (fun r36 m36 E36 hw => ?_))
      have hw := hw E36
      refine x_if_ne HE 48 dX4_bell_39 (by decide) (fun c39 => ?_) (fun c39 => ?_)
      · have hw := hw.1 c39
        refine x_aload_n HE 0 dX4_bell_48 rfl rfl ?_
        refine x_callV HE dX4_bell_49 rfl (fun l => k_X4_asTold (f0.ext (EB.tr (E1.tr (E14.tr E36)))) l hw) (As := []) (rest := []) rfl xc10 (Lay_X4.tag (f0.ext (EB.tr (E1.tr (E14.tr E36))))) (lw_V q2116 q2118 qs80 q129 q2119) hy_X4_asTold rfl rfl (Nat.le_of_ble_eq_true rfl) (Nat.le_of_ble_eq_true rfl) (Nat.le_of_ble_eq_true rfl) (kkV (fun m49 E49 hw => ?_))
        have hw := hw E49
        refine x_aload_n HE 0 dX4_bell_52 rfl rfl ?_
        refine x_iload_n HE 1 dX4_bell_53 rfl rfl ?_
        refine x_pI HE dX4_bell_54 fd_X4_26 q1863 (Or.inl rfl) (Or.inl rfl) (nf_int _) (Lay_X4.tag (f0.ext (EB.tr (E1.tr (E14.tr (E36.tr E49)))))) (nro (by decide)) (Or.inl nf_X4_26) (fun m54 em54 E54 => ?_)
        have hw := hw m54 em54
        refine x_aload_n HE 0 dX4_bell_57 rfl rfl ?_
        refine x_callV HE dX4_bell_58 rfl (fun l => k_X4_evening (f0.ext (EB.tr (E1.tr (E14.tr (E36.tr (E49.tr E54)))))) l hw) (As := []) (rest := []) rfl xc10 (Lay_X4.tag (f0.ext (EB.tr (E1.tr (E14.tr (E36.tr (E49.tr E54))))))) (lw_V q2226 q2228 qs95 q129 q2229) hy_X4_evening rfl rfl (Nat.le_of_ble_eq_true rfl) (Nat.le_of_ble_eq_true rfl) (Nat.le_of_ble_eq_true rfl) (kkV (fun m58 E58 hw => ?_))
        have hw := hw E58
        refine x_aload_n HE 0 dX4_bell_61 rfl rfl ?_
        refine x_iload_n HE 2 dX4_bell_62 rfl rfl ?_
        refine x_callV HE dX4_bell_63 rfl (fun l => k_X4_sumOf (f0.ext (EB.tr (E1.tr (E14.tr (E36.tr (E49.tr (E54.tr E58))))))) l hw) (As := [iV x2]) (rest := []) rfl xc10 (Lay_X4.tag (f0.ext (EB.tr (E1.tr (E14.tr (E36.tr (E49.tr (E54.tr E58)))))))) (lw_V q2285 q2287 qs103 q129 q2288) hy_X4_sumOf rfl rfl (Nat.le_of_ble_eq_true rfl) (Nat.le_of_ble_eq_true rfl) (Nat.le_of_ble_eq_true rfl) (kkI (fun r63 m63 E63 hw => ?_))
        have hw := hw E63
        exact x_iret HE hr dX4_bell_66 hw
      · have hw := hw.2 c39
        refine x_aload_n HE 0 dX4_bell_42 rfl rfl ?_
        refine x_iconst HE dX4_bell_43 (by decide) ?_
        refine x_callV HE dX4_bell_44 rfl (fun l => k_X4_no (f0.ext (EB.tr (E1.tr (E14.tr E36)))) l hw) (As := [iV 2]) (rest := []) rfl xc10 (Lay_X4.tag (f0.ext (EB.tr (E1.tr (E14.tr E36))))) (lw_V q1962 q1964 qs56 q129 q1965) hy_X4_no rfl rfl (Nat.le_of_ble_eq_true rfl) (Nat.le_of_ble_eq_true rfl) (Nat.le_of_ble_eq_true rfl) (kkI (fun r44 m44 E44 hw => ?_))
        have hw := hw E44
        exact x_iret HE hr dX4_bell_47 hw
    · have hw := hw.2 c17
      exact w_X4_bell_20 HE hr f0 hw
theorem k_X4_bell {G : GT} {x0 x1 x2 : Int} {Q : Int → Hp → Prop} {h : Hp} (f0 : Lay_X4 h x0) (l : Launch) (hw : g_X4_bell x0 x1 x2 Q h) : XM G l yX4_bell cX4_bell 3 (some .int) 6 146 [rV x0, iV x1, iV x2] (QI Q) h :=
  XM.of (by decide) (Nat.le_of_ble_eq_true rfl) (fun X HE hr hn => w_X4_bell_0 HE hr f0 hw)
def g_X4_layRule_b80 (x0 x1 x2 : Int) (Q : Hp → Prop) (h : Hp) : Prop :=
  g_X4_evening x0 (fun m81 => Ext h m81 → (Q m81)) h
theorem w_X4_layRule_80 {G : GT} {X : ET} {h0 : Hp} {x0 x1 x2 : Int} (HE : XE G X cX4_layRule 4 RX4 6 146 h0) (hr : XR X none) (f0 : Lay_X4 h0 x0) {Q : Hp → Prop} {h : Hp} (hw : g_X4_layRule_b80 x0 x1 x2 Q  h) : Wx G X h0 (QV Q) h 80 [some (rV x0), some (iV x1), some (iV x2), none] [] := by
  refine Wx.start (fun EB => ?_)
  unfold g_X4_layRule_b80 at hw
  refine x_aload_n HE 0 dX4_layRule_80 rfl rfl ?_
  refine x_callV HE dX4_layRule_81 rfl (fun l => k_X4_evening (f0.ext EB) l hw) (As := []) (rest := []) rfl xc10 (Lay_X4.tag (f0.ext EB)) (lw_V q2226 q2228 qs95 q129 q2229) hy_X4_evening rfl rfl (Nat.le_of_ble_eq_true rfl) (Nat.le_of_ble_eq_true rfl) (Nat.le_of_ble_eq_true rfl) (kkV (fun m81 E81 hw => ?_))
  have hw := hw E81
  exact x_vret HE hr dX4_layRule_84 hw
def g_X4_layRule_b74 (x0 x1 x2 : Int) (Q : Hp → Prop) (K16 : Int → Hp → Prop) (l3 : Int) (h : Hp) : Prop :=
  (i32 (l3 + 1)) ∧ (∀ y74 : Int, y74 = l3 + 1 → (K16 y74 h))
theorem w_X4_layRule_74 {G : GT} {X : ET} {h0 : Hp} {x0 x1 x2 : Int} (HE : XE G X cX4_layRule 4 RX4 6 146 h0) (hr : XR X none) (f0 : Lay_X4 h0 x0) {Q : Hp → Prop} {K16 : Int → Hp → Prop} (hK16 : ∀ (l3 : Int) (h : Hp), K16 l3 h → Wx G X h0 (QV Q) h 16 [some (rV x0), some (iV x1), some (iV x2), some (iV l3)] []) {l3 : Int} {h : Hp} (hw : g_X4_layRule_b74 x0 x1 x2 Q K16 l3 h) : Wx G X h0 (QV Q) h 74 [some (rV x0), some (iV x1), some (iV x2), some (iV l3)] [] := by
  refine Wx.start (fun EB => ?_)
  unfold g_X4_layRule_b74 at hw
  obtain ⟨v74, hw⟩ := hw
  refine x_iincN HE (fun y74 => [some (rV x0), some (iV x1), some (iV x2), some (iV y74)]) dX4_layRule_74 rfl v74 (Nat.le_of_ble_eq_true rfl) (fun _ => rfl) (fun y74 ey74 => ?_)
  have hw := hw y74 ey74
  refine x_goto HE 16 dX4_layRule_77 (by decide) ?_
  exact hK16 _ _ hw
def g_X4_layRule_L16 (x0 x1 x2 : Int) (Q : Hp → Prop) (K16 : Int → Hp → Prop) (l3 : Int) (h : Hp) : Prop :=
  (((hF h x0 25) ≤ l3) → (g_X4_layRule_b80 x0 x1 x2 Q h)) ∧ ((l3 < (hF h x0 25)) → ((i32 (6 * l3)) ∧ ((i32 ((6 * l3) + 0)) ∧ (((0 : Int) ≤ ((6 * l3) + 0) ∧ ((6 * l3) + 0) < 24) ∧ (∀ m35 : Hp, m35 = setA h (x0 + 9) ((6 * l3) + 0) x1 → (((x2 ≠ 0) → ((i32 (6 * l3)) ∧ ((i32 ((6 * l3) + 2)) ∧ (((0 : Int) ≤ ((6 * l3) + 2) ∧ ((6 * l3) + 2) < 24) ∧ (∀ m54 : Hp, m54 = setA m35 (x0 + 9) ((6 * l3) + 2) 0 → ((i32 (6 * l3)) ∧ ((i32 ((6 * l3) + 3)) ∧ ((i32 ((hA m54 (x0 + 3) 1) - 1)) ∧ (((0 : Int) ≤ ((6 * l3) + 3) ∧ ((6 * l3) + 3) < 24) ∧ (∀ m73 : Hp, m73 = setA m54 (x0 + 9) ((6 * l3) + 3) ((hA m54 (x0 + 3) 1) - 1) → (g_X4_layRule_b74 x0 x1 x2 Q K16 l3 m73))))))))))) ∧ ((x2 = 0) → (g_X4_layRule_b74 x0 x1 x2 Q K16 l3 m35))))))))
theorem w_X4_layRule_16 {G : GT} {X : ET} {h0 : Hp} {x0 x1 x2 : Int} (HE : XE G X cX4_layRule 4 RX4 6 146 h0) (hr : XR X none) (f0 : Lay_X4 h0 x0) {Q : Hp → Prop} {K16 : Int → Hp → Prop} (hK16 : ∀ (l3 : Int) (h : Hp), K16 l3 h → Wx G X h0 (QV Q) h 16 [some (rV x0), some (iV x1), some (iV x2), some (iV l3)] []) {l3 : Int} {h : Hp} (hw : g_X4_layRule_L16 x0 x1 x2 Q K16 l3 h) : Wx G X h0 (QV Q) h 16 [some (rV x0), some (iV x1), some (iV x2), some (iV l3)] [] := by
  refine Wx.start (fun EB => ?_)
  unfold g_X4_layRule_L16 at hw
  refine x_iload_n HE 3 dX4_layRule_16 rfl rfl ?_
  refine x_aload_n HE 0 dX4_layRule_17 rfl rfl ?_
  refine x_gI HE dX4_layRule_18 fd_X4_25 q1862 (Or.inl rfl) (Lay_X4.tag (f0.ext EB)) rfl ?_
  refine x_ic_ge HE 80 dX4_layRule_21 (by decide) (fun c21 => ?_) (fun c21 => ?_)
  · have hw := hw.1 c21
    refine Wx.mask [true, true, true, false] (lo2 := [some (rV x0), some (iV x1), some (iV x2), none]) rfl ?_
    exact w_X4_layRule_80 HE hr f0 hw
  · have hw := hw.2 c21
    refine x_aload_n HE 0 dX4_layRule_24 rfl rfl ?_
    refine x_gR HE dX4_layRule_25 fd_X4_23 q1860 (Or.inl rfl) (Lay_X4.tag (f0.ext EB)) (Lay_X4_23 (f0.ext EB)).1 ?_
    refine x_bipush HE dX4_layRule_28 (by decide) ?_
    refine x_iload_n HE 3 dX4_layRule_30 rfl rfl ?_
    obtain ⟨v31, hw⟩ := hw
    refine x_imul HE dX4_layRule_31 v31 ?_
    refine x_iconst HE dX4_layRule_32 (by decide) ?_
    obtain ⟨v33, hw⟩ := hw
    refine x_iadd HE dX4_layRule_33 v33 ?_
    refine x_iload_n HE 1 dX4_layRule_34 rfl rfl ?_
    obtain ⟨i35, hw⟩ := hw
    refine x_iast HE dX4_layRule_35 ((Lay_X4_23 (f0.ext EB)).2.1) (ix_of ((Lay_X4_23 (f0.ext EB)).2.2) i35) (fun m35 em35 E35 => ?_)
    have hw := hw m35 em35
    refine x_iload_n HE 2 dX4_layRule_36 rfl rfl ?_
    refine x_if_ne HE 43 dX4_layRule_37 (by decide) (fun c37 => ?_) (fun c37 => ?_)
    · have hw := hw.1 c37
      refine x_aload_n HE 0 dX4_layRule_43 rfl rfl ?_
      refine x_gR HE dX4_layRule_44 fd_X4_23 q1860 (Or.inl rfl) (Lay_X4.tag (f0.ext (EB.tr E35))) (Lay_X4_23 (f0.ext (EB.tr E35))).1 ?_
      refine x_bipush HE dX4_layRule_47 (by decide) ?_
      refine x_iload_n HE 3 dX4_layRule_49 rfl rfl ?_
      obtain ⟨v50, hw⟩ := hw
      refine x_imul HE dX4_layRule_50 v50 ?_
      refine x_iconst HE dX4_layRule_51 (by decide) ?_
      obtain ⟨v52, hw⟩ := hw
      refine x_iadd HE dX4_layRule_52 v52 ?_
      refine x_iconst HE dX4_layRule_53 (by decide) ?_
      obtain ⟨i54, hw⟩ := hw
      refine x_iast HE dX4_layRule_54 ((Lay_X4_23 (f0.ext (EB.tr E35))).2.1) (ix_of ((Lay_X4_23 (f0.ext (EB.tr E35))).2.2) i54) (fun m54 em54 E54 => ?_)
      have hw := hw m54 em54
      refine x_aload_n HE 0 dX4_layRule_55 rfl rfl ?_
      refine x_gR HE dX4_layRule_56 fd_X4_23 q1860 (Or.inl rfl) (Lay_X4.tag (f0.ext (EB.tr (E35.tr E54)))) (Lay_X4_23 (f0.ext (EB.tr (E35.tr E54)))).1 ?_
      refine x_bipush HE dX4_layRule_59 (by decide) ?_
      refine x_iload_n HE 3 dX4_layRule_61 rfl rfl ?_
      obtain ⟨v62, hw⟩ := hw
      refine x_imul HE dX4_layRule_62 v62 ?_
      refine x_iconst HE dX4_layRule_63 (by decide) ?_
      obtain ⟨v64, hw⟩ := hw
      refine x_iadd HE dX4_layRule_64 v64 ?_
      refine x_aload_n HE 0 dX4_layRule_65 rfl rfl ?_
      refine x_gR HE dX4_layRule_66 fd_X4_15 q1852 (Or.inl rfl) (Lay_X4.tag (f0.ext (EB.tr (E35.tr E54)))) (Lay_X4_15 (f0.ext (EB.tr (E35.tr E54)))).1 ?_
      refine x_iconst HE dX4_layRule_69 (by decide) ?_
      refine x_iald HE dX4_layRule_70 (t := 1) (by decide) ((Lay_X4_15 (f0.ext (EB.tr (E35.tr E54)))).2.1) (ix_of ((Lay_X4_15 (f0.ext (EB.tr (E35.tr E54)))).2.2) (by decide)) rfl ?_
      refine x_iconst HE dX4_layRule_71 (by decide) ?_
      obtain ⟨v72, hw⟩ := hw
      refine x_isub HE dX4_layRule_72 v72 ?_
      obtain ⟨i73, hw⟩ := hw
      refine x_iast HE dX4_layRule_73 ((Lay_X4_23 (f0.ext (EB.tr (E35.tr E54)))).2.1) (ix_of ((Lay_X4_23 (f0.ext (EB.tr (E35.tr E54)))).2.2) i73) (fun m73 em73 E73 => ?_)
      have hw := hw m73 em73
      exact w_X4_layRule_74 HE hr f0 hK16 hw
    · have hw := hw.2 c37
      refine x_goto HE 74 dX4_layRule_40 (by decide) ?_
      exact w_X4_layRule_74 HE hr f0 hK16 hw
theorem wl_X4_layRule_16 {G : GT} {X : ET} {h0 : Hp} {x0 x1 x2 : Int} (HE : XE G X cX4_layRule 4 RX4 6 146 h0) (hr : XR X none) (f0 : Lay_X4 h0 x0) {Q : Hp → Prop} {l3 : Int} {h : Hp} (hw : Lp1 (g_X4_layRule_L16 x0 x1 x2 Q) l3 h) : Wx G X h0 (QV Q) h 16 [some (rV x0), some (iV x1), some (iV x2), some (iV l3)] [] := by
  obtain ⟨n, hw⟩ := hw
  induction n generalizing l3 h with
  | zero => exact hw.elim
  | succ n ih => exact w_X4_layRule_16 HE hr f0 (fun _ _ hk => ih hk) hw
def g_X4_layRule (x0 x1 x2 : Int) (Q : Hp → Prop) (h : Hp) : Prop :=
  g_X4_asTold x0 (fun m1 => Ext h m1 → (∀ m11 : Hp, m11 = setF m1 x0 26 (hA m1 (x0 + 3) 2) → (Lp1 (g_X4_layRule_L16 x0 x1 x2 Q) 0 m11))) h
theorem w_X4_layRule_0 {G : GT} {X : ET} {h0 : Hp} {x0 x1 x2 : Int} (HE : XE G X cX4_layRule 4 RX4 6 146 h0) (hr : XR X none) (f0 : Lay_X4 h0 x0) {Q : Hp → Prop} {h : Hp} (hw : g_X4_layRule x0 x1 x2 Q h) : Wx G X h0 (QV Q) h 0 [some (rV x0), some (iV x1), some (iV x2), none] [] := by
  refine Wx.start (fun EB => ?_)
  unfold g_X4_layRule at hw
  refine x_aload_n HE 0 dX4_layRule_0 rfl rfl ?_
  refine x_callV HE dX4_layRule_1 rfl (fun l => k_X4_asTold (f0.ext EB) l hw) (As := []) (rest := []) rfl xc10 (Lay_X4.tag (f0.ext EB)) (lw_V q2116 q2118 qs80 q129 q2119) hy_X4_asTold rfl rfl (Nat.le_of_ble_eq_true rfl) (Nat.le_of_ble_eq_true rfl) (Nat.le_of_ble_eq_true rfl) (kkV (fun m1 E1 hw => ?_))
  have hw := hw E1
  refine x_aload_n HE 0 dX4_layRule_4 rfl rfl ?_
  refine x_aload_n HE 0 dX4_layRule_5 rfl rfl ?_
  refine x_gR HE dX4_layRule_6 fd_X4_15 q1852 (Or.inl rfl) (Lay_X4.tag (f0.ext (EB.tr E1))) (Lay_X4_15 (f0.ext (EB.tr E1))).1 ?_
  refine x_iconst HE dX4_layRule_9 (by decide) ?_
  refine x_iald HE dX4_layRule_10 (t := 1) (by decide) ((Lay_X4_15 (f0.ext (EB.tr E1))).2.1) (ix_of ((Lay_X4_15 (f0.ext (EB.tr E1))).2.2) (by decide)) rfl ?_
  refine x_pI HE dX4_layRule_11 fd_X4_26 q1863 (Or.inl rfl) (Or.inl rfl) (nf_int _) (Lay_X4.tag (f0.ext (EB.tr E1))) (nro (by decide)) (Or.inl nf_X4_26) (fun m11 em11 E11 => ?_)
  have hw := hw m11 em11
  refine x_iconst HE dX4_layRule_14 (by decide) ?_
  refine x_istore_n HE 3 (lo' := [some (rV x0), some (iV x1), some (iV x2), some (iV 0)]) dX4_layRule_15 rfl (Nat.le_of_ble_eq_true rfl) rfl ?_
  exact wl_X4_layRule_16 HE hr f0 hw
theorem k_X4_layRule {G : GT} {x0 x1 x2 : Int} {Q : Hp → Prop} {h : Hp} (f0 : Lay_X4 h x0) (l : Launch) (hw : g_X4_layRule x0 x1 x2 Q h) : XM G l yX4_layRule cX4_layRule 4 none 6 146 [rV x0, iV x1, iV x2] (QV Q) h :=
  XM.of (by decide) (Nat.le_of_ble_eq_true rfl) (fun X HE hr hn => w_X4_layRule_0 HE hr f0 hw)
def g_X4_by_b29 (x0 x1 x2 x3 : Int) (Q : Int → Hp → Prop) (h : Hp) : Prop :=
  g_X4_no x0 1 (fun r31 m31 => Ext h m31 → (Q r31 m31)) h
theorem w_X4_by_29 {G : GT} {X : ET} {h0 : Hp} {x0 x1 x2 x3 : Int} (HE : XE G X cX4_by 4 RX4 7 169 h0) (hr : XR X (some .int)) (f0 : Lay_X4 h0 x0) {Q : Int → Hp → Prop} {h : Hp} (hw : g_X4_by_b29 x0 x1 x2 x3 Q  h) : Wx G X h0 (QI Q) h 29 [some (rV x0), some (iV x1), some (iV x2), some (iV x3)] [] := by
  refine Wx.start (fun EB => ?_)
  unfold g_X4_by_b29 at hw
  refine x_aload_n HE 0 dX4_by_29 rfl rfl ?_
  refine x_iconst HE dX4_by_30 (by decide) ?_
  refine x_callV HE dX4_by_31 rfl (fun l => k_X4_no (f0.ext EB) l hw) (As := [iV 1]) (rest := []) rfl xc10 (Lay_X4.tag (f0.ext EB)) (lw_V q1962 q1964 qs56 q129 q1965) hy_X4_no rfl rfl (Nat.le_of_ble_eq_true rfl) (Nat.le_of_ble_eq_true rfl) (Nat.le_of_ble_eq_true rfl) (kkI (fun r31 m31 E31 hw => ?_))
  have hw := hw E31
  exact x_iret HE hr dX4_by_34 hw
def g_X4_by (x0 x1 x2 x3 : Int) (Q : Int → Hp → Prop) (h : Hp) : Prop :=
  g_X4_good x0 (fun m1 => Ext h m1 → ((((hF m1 x0 14) = 0) → (g_X4_by_b29 x0 x1 x2 x3 Q m1)) ∧ (((hF m1 x0 14) ≠ 0) → (g_X4_within x1 0 4 (fun r14 m14 => Ext m1 m14 → (((r14 = 0) → (g_X4_by_b29 x0 x1 x2 x3 Q m14)) ∧ ((r14 ≠ 0) → (g_X4_within x3 0 5 (fun r23 m23 => Ext m14 m23 → (((r23 ≠ 0) → (g_X4_layRule x0 x1 x2 (fun m38 => Ext m23 m38 → (g_X4_sumOf x0 x3 (fun r43 m43 => Ext m38 m43 → (Q r43 m43)) m38)) m23)) ∧ ((r23 = 0) → (g_X4_by_b29 x0 x1 x2 x3 Q m23)))) m14)))) m1)))) h
theorem w_X4_by_0 {G : GT} {X : ET} {h0 : Hp} {x0 x1 x2 x3 : Int} (HE : XE G X cX4_by 4 RX4 7 169 h0) (hr : XR X (some .int)) (f0 : Lay_X4 h0 x0) {Q : Int → Hp → Prop} {h : Hp} (hw : g_X4_by x0 x1 x2 x3 Q h) : Wx G X h0 (QI Q) h 0 [some (rV x0), some (iV x1), some (iV x2), some (iV x3)] [] := by
  refine Wx.start (fun EB => ?_)
  unfold g_X4_by at hw
  refine x_aload_n HE 0 dX4_by_0 rfl rfl ?_
  refine x_callV HE dX4_by_1 rfl (fun l => k_X4_good (f0.ext EB) l hw) (As := []) (rest := []) rfl xc10 (Lay_X4.tag (f0.ext EB)) (lw_V q1955 q1957 qs55 q129 q1958) hy_X4_good rfl rfl (Nat.le_of_ble_eq_true rfl) (Nat.le_of_ble_eq_true rfl) (Nat.le_of_ble_eq_true rfl) (kkV (fun m1 E1 hw => ?_))
  have hw := hw E1
  refine x_aload_n HE 0 dX4_by_4 rfl rfl ?_
  refine x_gI HE dX4_by_5 fd_X4_14 q1851 (Or.inl rfl) (Lay_X4.tag (f0.ext (EB.tr E1))) rfl ?_
  refine x_if_eq HE 29 dX4_by_8 (by decide) (fun c8 => ?_) (fun c8 => ?_)
  · have hw := hw.1 c8
    exact w_X4_by_29 HE hr f0 hw
  · have hw := hw.2 c8
    refine x_iload_n HE 1 dX4_by_11 rfl rfl ?_
    refine x_iconst HE dX4_by_12 (by decide) ?_
    refine x_iconst HE dX4_by_13 (by decide) ?_
    refine x_callS HE dX4_by_14 rfl (fun l => k_X4_within  l hw) (As := [iV x1, iV 0, iV 4]) (rest := []) rfl (lw_S q1959 q1960 q129 q1961) hy_X4_within.2 rfl rfl (Nat.le_of_ble_eq_true rfl) (Nat.le_of_ble_eq_true rfl) (Nat.le_of_ble_eq_true rfl) (kkI (fun r14 m14 E14 hw => ?_))
    have hw := hw E14
    refine x_if_eq HE 29 dX4_by_17 (by decide) (fun c17 => ?_) (fun c17 => ?_)
    · have hw := hw.1 c17
      exact w_X4_by_29 HE hr f0 hw
    · have hw := hw.2 c17
      refine x_iload_n HE 3 dX4_by_20 rfl rfl ?_
      refine x_iconst HE dX4_by_21 (by decide) ?_
      refine x_iconst HE dX4_by_22 (by decide) ?_
      refine x_callS HE dX4_by_23 rfl (fun l => k_X4_within  l hw) (As := [iV x3, iV 0, iV 5]) (rest := []) rfl (lw_S q1959 q1960 q129 q1961) hy_X4_within.2 rfl rfl (Nat.le_of_ble_eq_true rfl) (Nat.le_of_ble_eq_true rfl) (Nat.le_of_ble_eq_true rfl) (kkI (fun r23 m23 E23 hw => ?_))
      have hw := hw E23
      refine x_if_ne HE 35 dX4_by_26 (by decide) (fun c26 => ?_) (fun c26 => ?_)
      · have hw := hw.1 c26
        refine x_aload_n HE 0 dX4_by_35 rfl rfl ?_
        refine x_iload_n HE 1 dX4_by_36 rfl rfl ?_
        refine x_iload_n HE 2 dX4_by_37 rfl rfl ?_
        refine x_callV HE dX4_by_38 rfl (fun l => k_X4_layRule (f0.ext (EB.tr (E1.tr (E14.tr E23)))) l hw) (As := [iV x1, iV x2]) (rest := []) rfl xc10 (Lay_X4.tag (f0.ext (EB.tr (E1.tr (E14.tr E23))))) (lw_V q2308 q2310 qs104 q129 q2311) hy_X4_layRule rfl rfl (Nat.le_of_ble_eq_true rfl) (Nat.le_of_ble_eq_true rfl) (Nat.le_of_ble_eq_true rfl) (kkV (fun m38 E38 hw => ?_))
        have hw := hw E38
        refine x_aload_n HE 0 dX4_by_41 rfl rfl ?_
        refine x_iload_n HE 3 dX4_by_42 rfl rfl ?_
        refine x_callV HE dX4_by_43 rfl (fun l => k_X4_sumOf (f0.ext (EB.tr (E1.tr (E14.tr (E23.tr E38))))) l hw) (As := [iV x3]) (rest := []) rfl xc10 (Lay_X4.tag (f0.ext (EB.tr (E1.tr (E14.tr (E23.tr E38)))))) (lw_V q2285 q2287 qs103 q129 q2288) hy_X4_sumOf rfl rfl (Nat.le_of_ble_eq_true rfl) (Nat.le_of_ble_eq_true rfl) (Nat.le_of_ble_eq_true rfl) (kkI (fun r43 m43 E43 hw => ?_))
        have hw := hw E43
        exact x_iret HE hr dX4_by_46 hw
      · have hw := hw.2 c26
        exact w_X4_by_29 HE hr f0 hw
theorem k_X4_by {G : GT} {x0 x1 x2 x3 : Int} {Q : Int → Hp → Prop} {h : Hp} (f0 : Lay_X4 h x0) (l : Launch) (hw : g_X4_by x0 x1 x2 x3 Q h) : XM G l yX4_by cX4_by 4 (some .int) 7 169 [rV x0, iV x1, iV x2, iV x3] (QI Q) h :=
  XM.of (by decide) (Nat.le_of_ble_eq_true rfl) (fun X HE hr hn => w_X4_by_0 HE hr f0 hw)
def g_X4_bestRule_b80 (x0 x1 : Int) (Q : Int → Hp → Prop) (l2 : Int) (h : Hp) : Prop :=
  Q l2 h
theorem w_X4_bestRule_80 {G : GT} {X : ET} {h0 : Hp} {x0 x1 : Int} (HE : XE G X cX4_bestRule 6 RX4 7 169 h0) (hr : XR X (some .int)) (f0 : Lay_X4 h0 x0) {Q : Int → Hp → Prop} {l2 : Int} {h : Hp} (hw : g_X4_bestRule_b80 x0 x1 Q l2 h) : Wx G X h0 (QI Q) h 80 [some (rV x0), some (iV x1), some (iV l2), none, none, none] [] := by
  refine Wx.start (fun EB => ?_)
  unfold g_X4_bestRule_b80 at hw
  refine x_iload_n HE 2 dX4_bestRule_80 rfl rfl ?_
  exact x_iret HE hr dX4_bestRule_81 hw
def g_X4_bestRule_b74 (x0 x1 : Int) (Q : Int → Hp → Prop) (K26 : Int → Int → Int → Hp → Prop) (l2 l3 l4 : Int) (h : Hp) : Prop :=
  (i32 (l4 + 1)) ∧ (∀ y74 : Int, y74 = l4 + 1 → (K26 l2 l3 y74 h))
theorem w_X4_bestRule_74 {G : GT} {X : ET} {h0 : Hp} {x0 x1 : Int} (HE : XE G X cX4_bestRule 6 RX4 7 169 h0) (hr : XR X (some .int)) (f0 : Lay_X4 h0 x0) {Q : Int → Hp → Prop} {K26 : Int → Int → Int → Hp → Prop} (hK26 : ∀ (l2 l3 l4 : Int) (h : Hp), K26 l2 l3 l4 h → Wx G X h0 (QI Q) h 26 [some (rV x0), some (iV x1), some (iV l2), some (iV l3), some (iV l4), none] []) {l2 l3 l4 : Int} {h : Hp} (hw : g_X4_bestRule_b74 x0 x1 Q K26 l2 l3 l4 h) : Wx G X h0 (QI Q) h 74 [some (rV x0), some (iV x1), some (iV l2), some (iV l3), some (iV l4), none] [] := by
  refine Wx.start (fun EB => ?_)
  unfold g_X4_bestRule_b74 at hw
  obtain ⟨v74, hw⟩ := hw
  refine x_iincN HE (fun y74 => [some (rV x0), some (iV x1), some (iV l2), some (iV l3), some (iV y74), none]) dX4_bestRule_74 rfl v74 (Nat.le_of_ble_eq_true rfl) (fun _ => rfl) (fun y74 ey74 => ?_)
  have hw := hw y74 ey74
  refine x_goto HE 26 dX4_bestRule_77 (by decide) ?_
  exact hK26 _ _ _ _ hw
def g_X4_bestRule_b57 (x0 x1 : Int) (Q : Int → Hp → Prop) (K26 : Int → Int → Int → Hp → Prop) (l2 l3 l4 s0 : Int) (h : Hp) : Prop :=
  ((s0 < l3) → (g_X4_bestRule_b74 x0 x1 Q K26 l4 s0 l4 h)) ∧ ((l3 ≤ s0) → (g_X4_bestRule_b74 x0 x1 Q K26 l2 l3 l4 h))
theorem w_X4_bestRule_57 {G : GT} {X : ET} {h0 : Hp} {x0 x1 : Int} (HE : XE G X cX4_bestRule 6 RX4 7 169 h0) (hr : XR X (some .int)) (f0 : Lay_X4 h0 x0) {Q : Int → Hp → Prop} {K26 : Int → Int → Int → Hp → Prop} (hK26 : ∀ (l2 l3 l4 : Int) (h : Hp), K26 l2 l3 l4 h → Wx G X h0 (QI Q) h 26 [some (rV x0), some (iV x1), some (iV l2), some (iV l3), some (iV l4), none] []) {l2 l3 l4 s0 : Int} {h : Hp} (hw : g_X4_bestRule_b57 x0 x1 Q K26 l2 l3 l4 s0 h) : Wx G X h0 (QI Q) h 57 [some (rV x0), some (iV x1), some (iV l2), some (iV l3), some (iV l4), none] [iV s0] := by
  refine Wx.start (fun EB => ?_)
  unfold g_X4_bestRule_b57 at hw
  refine x_istore HE (lo' := [some (rV x0), some (iV x1), some (iV l2), some (iV l3), some (iV l4), some (iV s0)]) dX4_bestRule_57 (Nat.le_of_ble_eq_true rfl) rfl ?_
  refine x_iload HE dX4_bestRule_59 rfl ?_
  refine x_iload_n HE 3 dX4_bestRule_61 rfl rfl ?_
  refine x_ic_lt HE 68 dX4_bestRule_62 (by decide) (fun c62 => ?_) (fun c62 => ?_)
  · have hw := hw.1 c62
    refine x_iload HE dX4_bestRule_68 rfl ?_
    refine x_istore_n HE 2 (lo' := [some (rV x0), some (iV x1), some (iV l4), some (iV l3), some (iV l4), some (iV s0)]) dX4_bestRule_70 rfl (Nat.le_of_ble_eq_true rfl) rfl ?_
    refine x_iload HE dX4_bestRule_71 rfl ?_
    refine x_istore_n HE 3 (lo' := [some (rV x0), some (iV x1), some (iV l4), some (iV s0), some (iV l4), some (iV s0)]) dX4_bestRule_73 rfl (Nat.le_of_ble_eq_true rfl) rfl ?_
    refine Wx.mask [true, true, true, true, true, false] (lo2 := [some (rV x0), some (iV x1), some (iV l4), some (iV s0), some (iV l4), none]) rfl ?_
    exact w_X4_bestRule_74 HE hr f0 hK26 hw
  · have hw := hw.2 c62
    refine x_goto HE 74 dX4_bestRule_65 (by decide) ?_
    refine Wx.mask [true, true, true, true, true, false] (lo2 := [some (rV x0), some (iV x1), some (iV l2), some (iV l3), some (iV l4), none]) rfl ?_
    exact w_X4_bestRule_74 HE hr f0 hK26 hw
def g_X4_bestRule_L26 (x0 x1 : Int) (Q : Int → Hp → Prop) (K26 : Int → Int → Int → Hp → Prop) (l2 l3 l4 : Int) (h : Hp) : Prop :=
  ((5 ≤ l4) → (g_X4_bestRule_b80 x0 x1 Q l2 h)) ∧ ((l4 < 5) → (g_X4_layRule x0 l4 0 (fun m36 => Ext h m36 → (((x1 = 0) → (g_X4_sumOf x0 0 (fun r53 m53 => Ext m36 m53 → ((i32 (-r53)) ∧ (g_X4_bestRule_b57 x0 x1 Q K26 l2 l3 l4 (-r53) m53))) m36)) ∧ ((x1 ≠ 0) → (g_X4_sumOf x0 4 (fun r45 m45 => Ext m36 m45 → (g_X4_bestRule_b57 x0 x1 Q K26 l2 l3 l4 r45 m45)) m36)))) h))
theorem w_X4_bestRule_26 {G : GT} {X : ET} {h0 : Hp} {x0 x1 : Int} (HE : XE G X cX4_bestRule 6 RX4 7 169 h0) (hr : XR X (some .int)) (f0 : Lay_X4 h0 x0) {Q : Int → Hp → Prop} {K26 : Int → Int → Int → Hp → Prop} (hK26 : ∀ (l2 l3 l4 : Int) (h : Hp), K26 l2 l3 l4 h → Wx G X h0 (QI Q) h 26 [some (rV x0), some (iV x1), some (iV l2), some (iV l3), some (iV l4), none] []) {l2 l3 l4 : Int} {h : Hp} (hw : g_X4_bestRule_L26 x0 x1 Q K26 l2 l3 l4 h) : Wx G X h0 (QI Q) h 26 [some (rV x0), some (iV x1), some (iV l2), some (iV l3), some (iV l4), none] [] := by
  refine Wx.start (fun EB => ?_)
  unfold g_X4_bestRule_L26 at hw
  refine x_iload HE dX4_bestRule_26 rfl ?_
  refine x_iconst HE dX4_bestRule_28 (by decide) ?_
  refine x_ic_ge HE 80 dX4_bestRule_29 (by decide) (fun c29 => ?_) (fun c29 => ?_)
  · have hw := hw.1 c29
    refine Wx.mask [true, true, true, false, false, true] (lo2 := [some (rV x0), some (iV x1), some (iV l2), none, none, none]) rfl ?_
    exact w_X4_bestRule_80 HE hr f0 hw
  · have hw := hw.2 c29
    refine x_aload_n HE 0 dX4_bestRule_32 rfl rfl ?_
    refine x_iload HE dX4_bestRule_33 rfl ?_
    refine x_iconst HE dX4_bestRule_35 (by decide) ?_
    refine x_callV HE dX4_bestRule_36 rfl (fun l => k_X4_layRule (f0.ext EB) l hw) (As := [iV l4, iV 0]) (rest := []) rfl xc10 (Lay_X4.tag (f0.ext EB)) (lw_V q2308 q2310 qs104 q129 q2311) hy_X4_layRule rfl rfl (Nat.le_of_ble_eq_true rfl) (Nat.le_of_ble_eq_true rfl) (Nat.le_of_ble_eq_true rfl) (kkV (fun m36 E36 hw => ?_))
    have hw := hw E36
    refine x_iload_n HE 1 dX4_bestRule_39 rfl rfl ?_
    refine x_if_eq HE 51 dX4_bestRule_40 (by decide) (fun c40 => ?_) (fun c40 => ?_)
    · have hw := hw.1 c40
      refine x_aload_n HE 0 dX4_bestRule_51 rfl rfl ?_
      refine x_iconst HE dX4_bestRule_52 (by decide) ?_
      refine x_callV HE dX4_bestRule_53 rfl (fun l => k_X4_sumOf (f0.ext (EB.tr E36)) l hw) (As := [iV 0]) (rest := []) rfl xc10 (Lay_X4.tag (f0.ext (EB.tr E36))) (lw_V q2285 q2287 qs103 q129 q2288) hy_X4_sumOf rfl rfl (Nat.le_of_ble_eq_true rfl) (Nat.le_of_ble_eq_true rfl) (Nat.le_of_ble_eq_true rfl) (kkI (fun r53 m53 E53 hw => ?_))
      have hw := hw E53
      obtain ⟨v56, hw⟩ := hw
      refine x_ineg HE dX4_bestRule_56 v56 ?_
      exact w_X4_bestRule_57 HE hr f0 hK26 hw
    · have hw := hw.2 c40
      refine x_aload_n HE 0 dX4_bestRule_43 rfl rfl ?_
      refine x_iconst HE dX4_bestRule_44 (by decide) ?_
      refine x_callV HE dX4_bestRule_45 rfl (fun l => k_X4_sumOf (f0.ext (EB.tr E36)) l hw) (As := [iV 4]) (rest := []) rfl xc10 (Lay_X4.tag (f0.ext (EB.tr E36))) (lw_V q2285 q2287 qs103 q129 q2288) hy_X4_sumOf rfl rfl (Nat.le_of_ble_eq_true rfl) (Nat.le_of_ble_eq_true rfl) (Nat.le_of_ble_eq_true rfl) (kkI (fun r45 m45 E45 hw => ?_))
      have hw := hw E45
      refine x_goto HE 57 dX4_bestRule_48 (by decide) ?_
      exact w_X4_bestRule_57 HE hr f0 hK26 hw
theorem wl_X4_bestRule_26 {G : GT} {X : ET} {h0 : Hp} {x0 x1 : Int} (HE : XE G X cX4_bestRule 6 RX4 7 169 h0) (hr : XR X (some .int)) (f0 : Lay_X4 h0 x0) {Q : Int → Hp → Prop} {l2 l3 l4 : Int} {h : Hp} (hw : Lp3 (g_X4_bestRule_L26 x0 x1 Q) l2 l3 l4 h) : Wx G X h0 (QI Q) h 26 [some (rV x0), some (iV x1), some (iV l2), some (iV l3), some (iV l4), none] [] := by
  obtain ⟨n, hw⟩ := hw
  induction n generalizing l2 l3 l4 h with
  | zero => exact hw.elim
  | succ n ih => exact w_X4_bestRule_26 HE hr f0 (fun _ _ _ _ hk => ih hk) hw
def g_X4_bestRule (x0 x1 : Int) (Q : Int → Hp → Prop) (h : Hp) : Prop :=
  g_X4_good x0 (fun m1 => Ext h m1 → ((((hF m1 x0 14) ≠ 0) → (Lp3 (g_X4_bestRule_L26 x0 x1 Q) 0 1000000 0 m1)) ∧ (((hF m1 x0 14) = 0) → (g_X4_no x0 1 (fun r13 m13 => Ext m1 m13 → (Q r13 m13)) m1)))) h
theorem w_X4_bestRule_0 {G : GT} {X : ET} {h0 : Hp} {x0 x1 : Int} (HE : XE G X cX4_bestRule 6 RX4 7 169 h0) (hr : XR X (some .int)) (f0 : Lay_X4 h0 x0) {Q : Int → Hp → Prop} {h : Hp} (hw : g_X4_bestRule x0 x1 Q h) : Wx G X h0 (QI Q) h 0 [some (rV x0), some (iV x1), none, none, none, none] [] := by
  refine Wx.start (fun EB => ?_)
  unfold g_X4_bestRule at hw
  refine x_aload_n HE 0 dX4_bestRule_0 rfl rfl ?_
  refine x_callV HE dX4_bestRule_1 rfl (fun l => k_X4_good (f0.ext EB) l hw) (As := []) (rest := []) rfl xc10 (Lay_X4.tag (f0.ext EB)) (lw_V q1955 q1957 qs55 q129 q1958) hy_X4_good rfl rfl (Nat.le_of_ble_eq_true rfl) (Nat.le_of_ble_eq_true rfl) (Nat.le_of_ble_eq_true rfl) (kkV (fun m1 E1 hw => ?_))
  have hw := hw E1
  refine x_aload_n HE 0 dX4_bestRule_4 rfl rfl ?_
  refine x_gI HE dX4_bestRule_5 fd_X4_14 q1851 (Or.inl rfl) (Lay_X4.tag (f0.ext (EB.tr E1))) rfl ?_
  refine x_if_ne HE 17 dX4_bestRule_8 (by decide) (fun c8 => ?_) (fun c8 => ?_)
  · have hw := hw.1 c8
    refine x_iconst HE dX4_bestRule_17 (by decide) ?_
    refine x_istore_n HE 2 (lo' := [some (rV x0), some (iV x1), some (iV 0), none, none, none]) dX4_bestRule_18 rfl (Nat.le_of_ble_eq_true rfl) rfl ?_
    refine x_ldcwI (n := 1000000) HE dX4_bestRule_19 q2156 (by unfold i32; decide) rfl ?_
    refine x_istore_n HE 3 (lo' := [some (rV x0), some (iV x1), some (iV 0), some (iV 1000000), none, none]) dX4_bestRule_22 rfl (Nat.le_of_ble_eq_true rfl) rfl ?_
    refine x_iconst HE dX4_bestRule_23 (by decide) ?_
    refine x_istore HE (lo' := [some (rV x0), some (iV x1), some (iV 0), some (iV 1000000), some (iV 0), none]) dX4_bestRule_24 (Nat.le_of_ble_eq_true rfl) rfl ?_
    exact wl_X4_bestRule_26 HE hr f0 hw
  · have hw := hw.2 c8
    refine x_aload_n HE 0 dX4_bestRule_11 rfl rfl ?_
    refine x_iconst HE dX4_bestRule_12 (by decide) ?_
    refine x_callV HE dX4_bestRule_13 rfl (fun l => k_X4_no (f0.ext (EB.tr E1)) l hw) (As := [iV 1]) (rest := []) rfl xc10 (Lay_X4.tag (f0.ext (EB.tr E1))) (lw_V q1962 q1964 qs56 q129 q1965) hy_X4_no rfl rfl (Nat.le_of_ble_eq_true rfl) (Nat.le_of_ble_eq_true rfl) (Nat.le_of_ble_eq_true rfl) (kkI (fun r13 m13 E13 hw => ?_))
    have hw := hw E13
    exact x_iret HE hr dX4_bestRule_16 hw
theorem k_X4_bestRule {G : GT} {x0 x1 : Int} {Q : Int → Hp → Prop} {h : Hp} (f0 : Lay_X4 h x0) (l : Launch) (hw : g_X4_bestRule x0 x1 Q h) : XM G l yX4_bestRule cX4_bestRule 6 (some .int) 7 169 [rV x0, iV x1] (QI Q) h :=
  XM.of (by decide) (Nat.le_of_ble_eq_true rfl) (fun X HE hr hn => w_X4_bestRule_0 HE hr f0 hw)
def g_X4_noLess (x0 x1 : Int) (Q : Int → Hp → Prop) (h : Hp) : Prop :=
  ∀ m2 : Hp, m2 = setF h x0 11 1 → (Q x1 m2)
theorem w_X4_noLess_0 {G : GT} {X : ET} {h0 : Hp} {x0 x1 : Int} (HE : XE G X cX4_noLess 2 RX4 0 0 h0) (hr : XR X (some .int)) (f0 : Lay_X4 h0 x0) {Q : Int → Hp → Prop} {h : Hp} (hw : g_X4_noLess x0 x1 Q h) : Wx G X h0 (QI Q) h 0 [some (rV x0), some (iV x1)] [] := by
  refine Wx.start (fun EB => ?_)
  unfold g_X4_noLess at hw
  refine x_aload_n HE 0 dX4_noLess_0 rfl rfl ?_
  refine x_iconst HE dX4_noLess_1 (by decide) ?_
  refine x_pI HE dX4_noLess_2 fd_X4_11 q1848 (Or.inl rfl) (Or.inl rfl) (nf_int _) (Lay_X4.tag (f0.ext EB)) (nro (by decide)) (Or.inl nf_X4_11) (fun m2 em2 E2 => ?_)
  have hw := hw m2 em2
  refine x_iload_n HE 1 dX4_noLess_5 rfl rfl ?_
  exact x_iret HE hr dX4_noLess_6 hw
theorem k_X4_noLess {G : GT} {x0 x1 : Int} {Q : Int → Hp → Prop} {h : Hp} (f0 : Lay_X4 h x0) (l : Launch) (hw : g_X4_noLess x0 x1 Q h) : XM G l yX4_noLess cX4_noLess 2 (some .int) 0 0 [rV x0, iV x1] (QI Q) h :=
  XM.of (by decide) (Nat.le_of_ble_eq_true rfl) (fun X HE hr hn => w_X4_noLess_0 HE hr f0 hw)
def g_X4_hand_b192 (x0 : Int) (Q : Int → Hp → Prop) (l1 : Int) (h : Hp) : Prop :=
  g_X4_sumOf x0 0 (fun r194 m194 => Ext h m194 → ((i32 (r194 - l1)) ∧ (Q (r194 - l1) m194))) h
theorem w_X4_hand_192 {G : GT} {X : ET} {h0 : Hp} {x0 : Int} (HE : XE G X cX4_hand 5 RX4 7 166 h0) (hr : XR X (some .int)) (f0 : Lay_X4 h0 x0) {Q : Int → Hp → Prop} {l1 : Int} {h : Hp} (hw : g_X4_hand_b192 x0 Q l1 h) : Wx G X h0 (QI Q) h 192 [some (rV x0), some (iV l1), none, none, none] [] := by
  refine Wx.start (fun EB => ?_)
  unfold g_X4_hand_b192 at hw
  refine x_aload_n HE 0 dX4_hand_192 rfl rfl ?_
  refine x_iconst HE dX4_hand_193 (by decide) ?_
  refine x_callV HE dX4_hand_194 rfl (fun l => k_X4_sumOf (f0.ext EB) l hw) (As := [iV 0]) (rest := []) rfl xc10 (Lay_X4.tag (f0.ext EB)) (lw_V q2285 q2287 qs103 q129 q2288) hy_X4_sumOf rfl rfl (Nat.le_of_ble_eq_true rfl) (Nat.le_of_ble_eq_true rfl) (Nat.le_of_ble_eq_true rfl) (kkI (fun r194 m194 E194 hw => ?_))
  have hw := hw E194
  refine x_iload_n HE 1 dX4_hand_197 rfl rfl ?_
  obtain ⟨v198, hw⟩ := hw
  refine x_isub HE dX4_hand_198 v198 ?_
  exact x_iret HE hr dX4_hand_199 hw
def g_X4_hand_L170 (x0 : Int) (Q : Int → Hp → Prop) (K170 : Int → Int → Int → Hp → Prop) (l1 l3 l4 : Int) (h : Hp) : Prop :=
  ((4 ≤ l4) → (g_X4_hand_b192 x0 Q l1 h)) ∧ ((l4 < 4) → ((i32 (l3 + l4)) ∧ (((0 : Int) ≤ (l3 + l4) ∧ (l3 + l4) < 108) ∧ (∀ m185 : Hp, m185 = setA h (x0 + 5) (l3 + l4) 0 → ((i32 (l4 + 1)) ∧ (∀ y186 : Int, y186 = l4 + 1 → (K170 l1 l3 y186 m185)))))))
theorem w_X4_hand_170 {G : GT} {X : ET} {h0 : Hp} {x0 : Int} (HE : XE G X cX4_hand 5 RX4 7 166 h0) (hr : XR X (some .int)) (f0 : Lay_X4 h0 x0) {Q : Int → Hp → Prop} {K170 : Int → Int → Int → Hp → Prop} (hK170 : ∀ (l1 l3 l4 : Int) (h : Hp), K170 l1 l3 l4 h → Wx G X h0 (QI Q) h 170 [some (rV x0), some (iV l1), none, some (iV l3), some (iV l4)] []) {l1 l3 l4 : Int} {h : Hp} (hw : g_X4_hand_L170 x0 Q K170 l1 l3 l4 h) : Wx G X h0 (QI Q) h 170 [some (rV x0), some (iV l1), none, some (iV l3), some (iV l4)] [] := by
  refine Wx.start (fun EB => ?_)
  unfold g_X4_hand_L170 at hw
  refine x_iload HE dX4_hand_170 rfl ?_
  refine x_iconst HE dX4_hand_172 (by decide) ?_
  refine x_ic_ge HE 192 dX4_hand_173 (by decide) (fun c173 => ?_) (fun c173 => ?_)
  · have hw := hw.1 c173
    refine Wx.mask [true, true, true, false, false] (lo2 := [some (rV x0), some (iV l1), none, none, none]) rfl ?_
    exact w_X4_hand_192 HE hr f0 hw
  · have hw := hw.2 c173
    refine x_aload_n HE 0 dX4_hand_176 rfl rfl ?_
    refine x_gR HE dX4_hand_177 fd_X4_17 q1854 (Or.inl rfl) (Lay_X4.tag (f0.ext EB)) (Lay_X4_17 (f0.ext EB)).1 ?_
    refine x_iload_n HE 3 dX4_hand_180 rfl rfl ?_
    refine x_iload HE dX4_hand_181 rfl ?_
    obtain ⟨v183, hw⟩ := hw
    refine x_iadd HE dX4_hand_183 v183 ?_
    refine x_iconst HE dX4_hand_184 (by decide) ?_
    obtain ⟨i185, hw⟩ := hw
    refine x_iast HE dX4_hand_185 ((Lay_X4_17 (f0.ext EB)).2.1) (ix_of ((Lay_X4_17 (f0.ext EB)).2.2) i185) (fun m185 em185 E185 => ?_)
    have hw := hw m185 em185
    obtain ⟨v186, hw⟩ := hw
    refine x_iincN HE (fun y186 => [some (rV x0), some (iV l1), none, some (iV l3), some (iV y186)]) dX4_hand_186 rfl v186 (Nat.le_of_ble_eq_true rfl) (fun _ => rfl) (fun y186 ey186 => ?_)
    have hw := hw y186 ey186
    refine x_goto HE 170 dX4_hand_189 (by decide) ?_
    exact hK170 _ _ _ _ hw
theorem wl_X4_hand_170 {G : GT} {X : ET} {h0 : Hp} {x0 : Int} (HE : XE G X cX4_hand 5 RX4 7 166 h0) (hr : XR X (some .int)) (f0 : Lay_X4 h0 x0) {Q : Int → Hp → Prop} {l1 l3 l4 : Int} {h : Hp} (hw : Lp3 (g_X4_hand_L170 x0 Q) l1 l3 l4 h) : Wx G X h0 (QI Q) h 170 [some (rV x0), some (iV l1), none, some (iV l3), some (iV l4)] [] := by
  obtain ⟨n, hw⟩ := hw
  induction n generalizing l1 l3 l4 h with
  | zero => exact hw.elim
  | succ n ih => exact w_X4_hand_170 HE hr f0 (fun _ _ _ _ hk => ih hk) hw
def g_X4_hand_b153 (x0 : Int) (Q : Int → Hp → Prop) (l1 l3 : Int) (h : Hp) : Prop :=
  (i32 ((hF h x0 25) + 1)) ∧ (∀ m160 : Hp, m160 = setF h x0 25 ((hF h x0 25) + 1) → (g_X4_evening x0 (fun m164 => Ext m160 m164 → (Lp3 (g_X4_hand_L170 x0 Q) l1 l3 0 m164)) m160))
theorem w_X4_hand_153 {G : GT} {X : ET} {h0 : Hp} {x0 : Int} (HE : XE G X cX4_hand 5 RX4 7 166 h0) (hr : XR X (some .int)) (f0 : Lay_X4 h0 x0) {Q : Int → Hp → Prop} {l1 l3 : Int} {h : Hp} (hw : g_X4_hand_b153 x0 Q l1 l3 h) : Wx G X h0 (QI Q) h 153 [some (rV x0), some (iV l1), none, some (iV l3), none] [] := by
  refine Wx.start (fun EB => ?_)
  unfold g_X4_hand_b153 at hw
  refine x_aload_n HE 0 dX4_hand_153 rfl rfl ?_
  refine x_dup HE dX4_hand_154 (fun o => o) ?_
  refine x_gI HE dX4_hand_155 fd_X4_25 q1862 (Or.inl rfl) (Lay_X4.tag (f0.ext EB)) rfl ?_
  refine x_iconst HE dX4_hand_158 (by decide) ?_
  obtain ⟨v159, hw⟩ := hw
  refine x_iadd HE dX4_hand_159 v159 ?_
  refine x_pI HE dX4_hand_160 fd_X4_25 q1862 (Or.inl rfl) (Or.inl rfl) (nf_int _) (Lay_X4.tag (f0.ext EB)) (nro (by decide)) (Or.inl nf_X4_25) (fun m160 em160 E160 => ?_)
  have hw := hw m160 em160
  refine x_aload_n HE 0 dX4_hand_163 rfl rfl ?_
  refine x_callV HE dX4_hand_164 rfl (fun l => k_X4_evening (f0.ext (EB.tr E160)) l hw) (As := []) (rest := []) rfl xc10 (Lay_X4.tag (f0.ext (EB.tr E160))) (lw_V q2226 q2228 qs95 q129 q2229) hy_X4_evening rfl rfl (Nat.le_of_ble_eq_true rfl) (Nat.le_of_ble_eq_true rfl) (Nat.le_of_ble_eq_true rfl) (kkV (fun m164 E164 hw => ?_))
  have hw := hw E164
  refine x_iconst HE dX4_hand_167 (by decide) ?_
  refine x_istore HE (lo' := [some (rV x0), some (iV l1), none, some (iV l3), some (iV 0)]) dX4_hand_168 (Nat.le_of_ble_eq_true rfl) rfl ?_
  exact wl_X4_hand_170 HE hr f0 hw
def g_X4_hand_L131 (x0 : Int) (Q : Int → Hp → Prop) (K131 : Int → Int → Int → Hp → Prop) (l1 l3 l4 : Int) (h : Hp) : Prop :=
  ((4 ≤ l4) → (g_X4_hand_b153 x0 Q l1 l3 h)) ∧ ((l4 < 4) → ((i32 (l3 + l4)) ∧ (((0 : Int) ≤ (l3 + l4) ∧ (l3 + l4) < 108) ∧ (∀ m146 : Hp, m146 = setA h (x0 + 5) (l3 + l4) 0 → ((i32 (l4 + 1)) ∧ (∀ y147 : Int, y147 = l4 + 1 → (K131 l1 l3 y147 m146)))))))
theorem w_X4_hand_131 {G : GT} {X : ET} {h0 : Hp} {x0 : Int} (HE : XE G X cX4_hand 5 RX4 7 166 h0) (hr : XR X (some .int)) (f0 : Lay_X4 h0 x0) {Q : Int → Hp → Prop} {K131 : Int → Int → Int → Hp → Prop} (hK131 : ∀ (l1 l3 l4 : Int) (h : Hp), K131 l1 l3 l4 h → Wx G X h0 (QI Q) h 131 [some (rV x0), some (iV l1), none, some (iV l3), some (iV l4)] []) {l1 l3 l4 : Int} {h : Hp} (hw : g_X4_hand_L131 x0 Q K131 l1 l3 l4 h) : Wx G X h0 (QI Q) h 131 [some (rV x0), some (iV l1), none, some (iV l3), some (iV l4)] [] := by
  refine Wx.start (fun EB => ?_)
  unfold g_X4_hand_L131 at hw
  refine x_iload HE dX4_hand_131 rfl ?_
  refine x_iconst HE dX4_hand_133 (by decide) ?_
  refine x_ic_ge HE 153 dX4_hand_134 (by decide) (fun c134 => ?_) (fun c134 => ?_)
  · have hw := hw.1 c134
    refine Wx.mask [true, true, true, true, false] (lo2 := [some (rV x0), some (iV l1), none, some (iV l3), none]) rfl ?_
    exact w_X4_hand_153 HE hr f0 hw
  · have hw := hw.2 c134
    refine x_aload_n HE 0 dX4_hand_137 rfl rfl ?_
    refine x_gR HE dX4_hand_138 fd_X4_17 q1854 (Or.inl rfl) (Lay_X4.tag (f0.ext EB)) (Lay_X4_17 (f0.ext EB)).1 ?_
    refine x_iload_n HE 3 dX4_hand_141 rfl rfl ?_
    refine x_iload HE dX4_hand_142 rfl ?_
    obtain ⟨v144, hw⟩ := hw
    refine x_iadd HE dX4_hand_144 v144 ?_
    refine x_iconst HE dX4_hand_145 (by decide) ?_
    obtain ⟨i146, hw⟩ := hw
    refine x_iast HE dX4_hand_146 ((Lay_X4_17 (f0.ext EB)).2.1) (ix_of ((Lay_X4_17 (f0.ext EB)).2.2) i146) (fun m146 em146 E146 => ?_)
    have hw := hw m146 em146
    obtain ⟨v147, hw⟩ := hw
    refine x_iincN HE (fun y147 => [some (rV x0), some (iV l1), none, some (iV l3), some (iV y147)]) dX4_hand_147 rfl v147 (Nat.le_of_ble_eq_true rfl) (fun _ => rfl) (fun y147 ey147 => ?_)
    have hw := hw y147 ey147
    refine x_goto HE 131 dX4_hand_150 (by decide) ?_
    exact hK131 _ _ _ _ hw
theorem wl_X4_hand_131 {G : GT} {X : ET} {h0 : Hp} {x0 : Int} (HE : XE G X cX4_hand 5 RX4 7 166 h0) (hr : XR X (some .int)) (f0 : Lay_X4 h0 x0) {Q : Int → Hp → Prop} {l1 l3 l4 : Int} {h : Hp} (hw : Lp3 (g_X4_hand_L131 x0 Q) l1 l3 l4 h) : Wx G X h0 (QI Q) h 131 [some (rV x0), some (iV l1), none, some (iV l3), some (iV l4)] [] := by
  obtain ⟨n, hw⟩ := hw
  induction n generalizing l1 l3 l4 h with
  | zero => exact hw.elim
  | succ n ih => exact w_X4_hand_131 HE hr f0 (fun _ _ _ _ hk => ih hk) hw
def g_X4_hand (x0 : Int) (Q : Int → Hp → Prop) (h : Hp) : Prop :=
  g_X4_good x0 (fun m1 => Ext h m1 → ((((hF m1 x0 14) ≠ 0) → (g_X4_tellEvening x0 (fun m19 => Ext m1 m19 → (g_X4_sumOf x0 0 (fun r24 m24 => Ext m19 m24 → ((i32 (6 * (hF m24 x0 25))) ∧ (∀ y35 : Int, y35 = (6 * (hF m24 x0 25)) → ((i32 (y35 + 0)) ∧ (((0 : Int) ≤ (y35 + 0) ∧ (y35 + 0) < 24) ∧ (∀ m44 : Hp, m44 = setA m24 (x0 + 9) (y35 + 0) 3 → ((i32 (y35 + 1)) ∧ (((0 : Int) ≤ (hA m44 (x0 + 3) 1) ∧ (0 : Int) < 2) ∧ (((0 : Int) ≤ (y35 + 1) ∧ (y35 + 1) < 24) ∧ (∀ m60 : Hp, m60 = setA m44 (x0 + 9) (y35 + 1) ((hA m44 (x0 + 3) 1) / 2) → ((i32 (y35 + 2)) ∧ (((0 : Int) ≤ (y35 + 2) ∧ (y35 + 2) < 24) ∧ (∀ m69 : Hp, m69 = setA m60 (x0 + 9) (y35 + 2) 0 → ((i32 (y35 + 3)) ∧ ((i32 ((hA m69 (x0 + 3) 1) - 1)) ∧ (((0 : Int) ≤ (y35 + 3) ∧ (y35 + 3) < 24) ∧ (∀ m85 : Hp, m85 = setA m69 (x0 + 9) (y35 + 3) ((hA m69 (x0 + 3) 1) - 1) → ((i32 (y35 + 4)) ∧ (((0 : Int) ≤ (y35 + 4) ∧ (y35 + 4) < 24) ∧ (∀ m94 : Hp, m94 = setA m85 (x0 + 9) (y35 + 4) 1 → ((i32 (y35 + 5)) ∧ (((0 : Int) ≤ (y35 + 5) ∧ (y35 + 5) < 24) ∧ (∀ m103 : Hp, m103 = setA m94 (x0 + 9) (y35 + 5) 1 → ((i32 (4 * (hF m103 x0 25))) ∧ ((i32 (92 + (4 * (hF m103 x0 25)))) ∧ (∀ y113 : Int, y113 = (92 + (4 * (hF m103 x0 25))) → ((i32 (y35 + 1)) ∧ (((0 : Int) ≤ (y35 + 1) ∧ (y35 + 1) < 24) ∧ (((0 : Int) ≤ y113 ∧ y113 < 108) ∧ (∀ m127 : Hp, m127 = setA m103 (x0 + 5) y113 (hA m103 (x0 + 9) (y35 + 1)) → (Lp3 (g_X4_hand_L131 x0 Q) r24 y113 1 m127))))))))))))))))))))))))))))))) m19)) m1)) ∧ (((hF m1 x0 14) = 0) → (g_X4_noLess x0 (-100) (fun r14 m14 => Ext m1 m14 → (Q r14 m14)) m1)))) h
theorem w_X4_hand_0 {G : GT} {X : ET} {h0 : Hp} {x0 : Int} (HE : XE G X cX4_hand 5 RX4 7 166 h0) (hr : XR X (some .int)) (f0 : Lay_X4 h0 x0) {Q : Int → Hp → Prop} {h : Hp} (hw : g_X4_hand x0 Q h) : Wx G X h0 (QI Q) h 0 [some (rV x0), none, none, none, none] [] := by
  refine Wx.start (fun EB => ?_)
  unfold g_X4_hand at hw
  refine x_aload_n HE 0 dX4_hand_0 rfl rfl ?_
  refine x_callV HE dX4_hand_1 rfl (fun l => k_X4_good (f0.ext EB) l hw) (As := []) (rest := []) rfl xc10 (Lay_X4.tag (f0.ext EB)) (lw_V q1955 q1957 qs55 q129 q1958) hy_X4_good rfl rfl (Nat.le_of_ble_eq_true rfl) (Nat.le_of_ble_eq_true rfl) (Nat.le_of_ble_eq_true rfl) (kkV (fun m1 E1 hw => ?_))
  have hw := hw E1
  refine x_aload_n HE 0 dX4_hand_4 rfl rfl ?_
  refine x_gI HE dX4_hand_5 fd_X4_14 q1851 (Or.inl rfl) (Lay_X4.tag (f0.ext (EB.tr E1))) rfl ?_
  refine x_if_ne HE 18 dX4_hand_8 (by decide) (fun c8 => ?_) (fun c8 => ?_)
  · have hw := hw.1 c8
    refine x_aload_n HE 0 dX4_hand_18 rfl rfl ?_
    refine x_callV HE dX4_hand_19 rfl (fun l => k_X4_tellEvening (f0.ext (EB.tr E1)) l hw) (As := []) (rest := []) rfl xc10 (Lay_X4.tag (f0.ext (EB.tr E1))) (lw_V q2222 q2224 qs94 q129 q2225) hy_X4_tellEvening rfl rfl (Nat.le_of_ble_eq_true rfl) (Nat.le_of_ble_eq_true rfl) (Nat.le_of_ble_eq_true rfl) (kkV (fun m19 E19 hw => ?_))
    have hw := hw E19
    refine x_aload_n HE 0 dX4_hand_22 rfl rfl ?_
    refine x_iconst HE dX4_hand_23 (by decide) ?_
    refine x_callV HE dX4_hand_24 rfl (fun l => k_X4_sumOf (f0.ext (EB.tr (E1.tr E19))) l hw) (As := [iV 0]) (rest := []) rfl xc10 (Lay_X4.tag (f0.ext (EB.tr (E1.tr E19)))) (lw_V q2285 q2287 qs103 q129 q2288) hy_X4_sumOf rfl rfl (Nat.le_of_ble_eq_true rfl) (Nat.le_of_ble_eq_true rfl) (Nat.le_of_ble_eq_true rfl) (kkI (fun r24 m24 E24 hw => ?_))
    have hw := hw E24
    refine x_istore_n HE 1 (lo' := [some (rV x0), some (iV r24), none, none, none]) dX4_hand_27 rfl (Nat.le_of_ble_eq_true rfl) rfl ?_
    refine x_bipush HE dX4_hand_28 (by decide) ?_
    refine x_aload_n HE 0 dX4_hand_30 rfl rfl ?_
    refine x_gI HE dX4_hand_31 fd_X4_25 q1862 (Or.inl rfl) (Lay_X4.tag (f0.ext (EB.tr (E1.tr (E19.tr E24))))) rfl ?_
    obtain ⟨v34, hw⟩ := hw
    refine x_imul HE dX4_hand_34 v34 ?_
    refine x_istore_nN HE 2 (fun y35 => [some (rV x0), some (iV r24), some (iV y35), none, none]) dX4_hand_35 rfl (Nat.le_of_ble_eq_true rfl) (fun _ => rfl) (fun y35 ey35 => ?_)
    have hw := hw y35 ey35
    refine x_aload_n HE 0 dX4_hand_36 rfl rfl ?_
    refine x_gR HE dX4_hand_37 fd_X4_23 q1860 (Or.inl rfl) (Lay_X4.tag (f0.ext (EB.tr (E1.tr (E19.tr E24))))) (Lay_X4_23 (f0.ext (EB.tr (E1.tr (E19.tr E24))))).1 ?_
    refine x_iload_n HE 2 dX4_hand_40 rfl rfl ?_
    refine x_iconst HE dX4_hand_41 (by decide) ?_
    obtain ⟨v42, hw⟩ := hw
    refine x_iadd HE dX4_hand_42 v42 ?_
    refine x_iconst HE dX4_hand_43 (by decide) ?_
    obtain ⟨i44, hw⟩ := hw
    refine x_iast HE dX4_hand_44 ((Lay_X4_23 (f0.ext (EB.tr (E1.tr (E19.tr E24))))).2.1) (ix_of ((Lay_X4_23 (f0.ext (EB.tr (E1.tr (E19.tr E24))))).2.2) i44) (fun m44 em44 E44 => ?_)
    have hw := hw m44 em44
    refine x_aload_n HE 0 dX4_hand_45 rfl rfl ?_
    refine x_gR HE dX4_hand_46 fd_X4_23 q1860 (Or.inl rfl) (Lay_X4.tag (f0.ext (EB.tr (E1.tr (E19.tr (E24.tr E44)))))) (Lay_X4_23 (f0.ext (EB.tr (E1.tr (E19.tr (E24.tr E44)))))).1 ?_
    refine x_iload_n HE 2 dX4_hand_49 rfl rfl ?_
    refine x_iconst HE dX4_hand_50 (by decide) ?_
    obtain ⟨v51, hw⟩ := hw
    refine x_iadd HE dX4_hand_51 v51 ?_
    refine x_aload_n HE 0 dX4_hand_52 rfl rfl ?_
    refine x_gR HE dX4_hand_53 fd_X4_15 q1852 (Or.inl rfl) (Lay_X4.tag (f0.ext (EB.tr (E1.tr (E19.tr (E24.tr E44)))))) (Lay_X4_15 (f0.ext (EB.tr (E1.tr (E19.tr (E24.tr E44)))))).1 ?_
    refine x_iconst HE dX4_hand_56 (by decide) ?_
    refine x_iald HE dX4_hand_57 (t := 1) (by decide) ((Lay_X4_15 (f0.ext (EB.tr (E1.tr (E19.tr (E24.tr E44)))))).2.1) (ix_of ((Lay_X4_15 (f0.ext (EB.tr (E1.tr (E19.tr (E24.tr E44)))))).2.2) (by decide)) rfl ?_
    refine x_iconst HE dX4_hand_58 (by decide) ?_
    obtain ⟨v59, hw⟩ := hw
    refine x_idiv HE dX4_hand_59 v59.1 v59.2 ?_
    obtain ⟨i60, hw⟩ := hw
    refine x_iast HE dX4_hand_60 ((Lay_X4_23 (f0.ext (EB.tr (E1.tr (E19.tr (E24.tr E44)))))).2.1) (ix_of ((Lay_X4_23 (f0.ext (EB.tr (E1.tr (E19.tr (E24.tr E44)))))).2.2) i60) (fun m60 em60 E60 => ?_)
    have hw := hw m60 em60
    refine x_aload_n HE 0 dX4_hand_61 rfl rfl ?_
    refine x_gR HE dX4_hand_62 fd_X4_23 q1860 (Or.inl rfl) (Lay_X4.tag (f0.ext (EB.tr (E1.tr (E19.tr (E24.tr (E44.tr E60))))))) (Lay_X4_23 (f0.ext (EB.tr (E1.tr (E19.tr (E24.tr (E44.tr E60))))))).1 ?_
    refine x_iload_n HE 2 dX4_hand_65 rfl rfl ?_
    refine x_iconst HE dX4_hand_66 (by decide) ?_
    obtain ⟨v67, hw⟩ := hw
    refine x_iadd HE dX4_hand_67 v67 ?_
    refine x_iconst HE dX4_hand_68 (by decide) ?_
    obtain ⟨i69, hw⟩ := hw
    refine x_iast HE dX4_hand_69 ((Lay_X4_23 (f0.ext (EB.tr (E1.tr (E19.tr (E24.tr (E44.tr E60))))))).2.1) (ix_of ((Lay_X4_23 (f0.ext (EB.tr (E1.tr (E19.tr (E24.tr (E44.tr E60))))))).2.2) i69) (fun m69 em69 E69 => ?_)
    have hw := hw m69 em69
    refine x_aload_n HE 0 dX4_hand_70 rfl rfl ?_
    refine x_gR HE dX4_hand_71 fd_X4_23 q1860 (Or.inl rfl) (Lay_X4.tag (f0.ext (EB.tr (E1.tr (E19.tr (E24.tr (E44.tr (E60.tr E69)))))))) (Lay_X4_23 (f0.ext (EB.tr (E1.tr (E19.tr (E24.tr (E44.tr (E60.tr E69)))))))).1 ?_
    refine x_iload_n HE 2 dX4_hand_74 rfl rfl ?_
    refine x_iconst HE dX4_hand_75 (by decide) ?_
    obtain ⟨v76, hw⟩ := hw
    refine x_iadd HE dX4_hand_76 v76 ?_
    refine x_aload_n HE 0 dX4_hand_77 rfl rfl ?_
    refine x_gR HE dX4_hand_78 fd_X4_15 q1852 (Or.inl rfl) (Lay_X4.tag (f0.ext (EB.tr (E1.tr (E19.tr (E24.tr (E44.tr (E60.tr E69)))))))) (Lay_X4_15 (f0.ext (EB.tr (E1.tr (E19.tr (E24.tr (E44.tr (E60.tr E69)))))))).1 ?_
    refine x_iconst HE dX4_hand_81 (by decide) ?_
    refine x_iald HE dX4_hand_82 (t := 1) (by decide) ((Lay_X4_15 (f0.ext (EB.tr (E1.tr (E19.tr (E24.tr (E44.tr (E60.tr E69)))))))).2.1) (ix_of ((Lay_X4_15 (f0.ext (EB.tr (E1.tr (E19.tr (E24.tr (E44.tr (E60.tr E69)))))))).2.2) (by decide)) rfl ?_
    refine x_iconst HE dX4_hand_83 (by decide) ?_
    obtain ⟨v84, hw⟩ := hw
    refine x_isub HE dX4_hand_84 v84 ?_
    obtain ⟨i85, hw⟩ := hw
    refine x_iast HE dX4_hand_85 ((Lay_X4_23 (f0.ext (EB.tr (E1.tr (E19.tr (E24.tr (E44.tr (E60.tr E69)))))))).2.1) (ix_of ((Lay_X4_23 (f0.ext (EB.tr (E1.tr (E19.tr (E24.tr (E44.tr (E60.tr E69)))))))).2.2) i85) (fun m85 em85 E85 => ?_)
    have hw := hw m85 em85
    refine x_aload_n HE 0 dX4_hand_86 rfl rfl ?_
    refine x_gR HE dX4_hand_87 fd_X4_23 q1860 (Or.inl rfl) (Lay_X4.tag (f0.ext (EB.tr (E1.tr (E19.tr (E24.tr (E44.tr (E60.tr (E69.tr E85))))))))) (Lay_X4_23 (f0.ext (EB.tr (E1.tr (E19.tr (E24.tr (E44.tr (E60.tr (E69.tr E85))))))))).1 ?_
    refine x_iload_n HE 2 dX4_hand_90 rfl rfl ?_
    refine x_iconst HE dX4_hand_91 (by decide) ?_
    obtain ⟨v92, hw⟩ := hw
    refine x_iadd HE dX4_hand_92 v92 ?_
    refine x_iconst HE dX4_hand_93 (by decide) ?_
    obtain ⟨i94, hw⟩ := hw
    refine x_iast HE dX4_hand_94 ((Lay_X4_23 (f0.ext (EB.tr (E1.tr (E19.tr (E24.tr (E44.tr (E60.tr (E69.tr E85))))))))).2.1) (ix_of ((Lay_X4_23 (f0.ext (EB.tr (E1.tr (E19.tr (E24.tr (E44.tr (E60.tr (E69.tr E85))))))))).2.2) i94) (fun m94 em94 E94 => ?_)
    have hw := hw m94 em94
    refine x_aload_n HE 0 dX4_hand_95 rfl rfl ?_
    refine x_gR HE dX4_hand_96 fd_X4_23 q1860 (Or.inl rfl) (Lay_X4.tag (f0.ext (EB.tr (E1.tr (E19.tr (E24.tr (E44.tr (E60.tr (E69.tr (E85.tr E94)))))))))) (Lay_X4_23 (f0.ext (EB.tr (E1.tr (E19.tr (E24.tr (E44.tr (E60.tr (E69.tr (E85.tr E94)))))))))).1 ?_
    refine x_iload_n HE 2 dX4_hand_99 rfl rfl ?_
    refine x_iconst HE dX4_hand_100 (by decide) ?_
    obtain ⟨v101, hw⟩ := hw
    refine x_iadd HE dX4_hand_101 v101 ?_
    refine x_iconst HE dX4_hand_102 (by decide) ?_
    obtain ⟨i103, hw⟩ := hw
    refine x_iast HE dX4_hand_103 ((Lay_X4_23 (f0.ext (EB.tr (E1.tr (E19.tr (E24.tr (E44.tr (E60.tr (E69.tr (E85.tr E94)))))))))).2.1) (ix_of ((Lay_X4_23 (f0.ext (EB.tr (E1.tr (E19.tr (E24.tr (E44.tr (E60.tr (E69.tr (E85.tr E94)))))))))).2.2) i103) (fun m103 em103 E103 => ?_)
    have hw := hw m103 em103
    refine x_bipush HE dX4_hand_104 (by decide) ?_
    refine x_iconst HE dX4_hand_106 (by decide) ?_
    refine x_aload_n HE 0 dX4_hand_107 rfl rfl ?_
    refine x_gI HE dX4_hand_108 fd_X4_25 q1862 (Or.inl rfl) (Lay_X4.tag (f0.ext (EB.tr (E1.tr (E19.tr (E24.tr (E44.tr (E60.tr (E69.tr (E85.tr (E94.tr E103))))))))))) rfl ?_
    obtain ⟨v111, hw⟩ := hw
    refine x_imul HE dX4_hand_111 v111 ?_
    obtain ⟨v112, hw⟩ := hw
    refine x_iadd HE dX4_hand_112 v112 ?_
    refine x_istore_nN HE 3 (fun y113 => [some (rV x0), some (iV r24), some (iV y35), some (iV y113), none]) dX4_hand_113 rfl (Nat.le_of_ble_eq_true rfl) (fun _ => rfl) (fun y113 ey113 => ?_)
    have hw := hw y113 ey113
    refine x_aload_n HE 0 dX4_hand_114 rfl rfl ?_
    refine x_gR HE dX4_hand_115 fd_X4_17 q1854 (Or.inl rfl) (Lay_X4.tag (f0.ext (EB.tr (E1.tr (E19.tr (E24.tr (E44.tr (E60.tr (E69.tr (E85.tr (E94.tr E103))))))))))) (Lay_X4_17 (f0.ext (EB.tr (E1.tr (E19.tr (E24.tr (E44.tr (E60.tr (E69.tr (E85.tr (E94.tr E103))))))))))).1 ?_
    refine x_iload_n HE 3 dX4_hand_118 rfl rfl ?_
    refine x_aload_n HE 0 dX4_hand_119 rfl rfl ?_
    refine x_gR HE dX4_hand_120 fd_X4_23 q1860 (Or.inl rfl) (Lay_X4.tag (f0.ext (EB.tr (E1.tr (E19.tr (E24.tr (E44.tr (E60.tr (E69.tr (E85.tr (E94.tr E103))))))))))) (Lay_X4_23 (f0.ext (EB.tr (E1.tr (E19.tr (E24.tr (E44.tr (E60.tr (E69.tr (E85.tr (E94.tr E103))))))))))).1 ?_
    refine x_iload_n HE 2 dX4_hand_123 rfl rfl ?_
    refine x_iconst HE dX4_hand_124 (by decide) ?_
    obtain ⟨v125, hw⟩ := hw
    refine x_iadd HE dX4_hand_125 v125 ?_
    obtain ⟨i126, hw⟩ := hw
    refine x_iald HE dX4_hand_126 (t := 1) (by decide) ((Lay_X4_23 (f0.ext (EB.tr (E1.tr (E19.tr (E24.tr (E44.tr (E60.tr (E69.tr (E85.tr (E94.tr E103))))))))))).2.1) (ix_of ((Lay_X4_23 (f0.ext (EB.tr (E1.tr (E19.tr (E24.tr (E44.tr (E60.tr (E69.tr (E85.tr (E94.tr E103))))))))))).2.2) i126) rfl ?_
    obtain ⟨i127, hw⟩ := hw
    refine x_iast HE dX4_hand_127 ((Lay_X4_17 (f0.ext (EB.tr (E1.tr (E19.tr (E24.tr (E44.tr (E60.tr (E69.tr (E85.tr (E94.tr E103))))))))))).2.1) (ix_of ((Lay_X4_17 (f0.ext (EB.tr (E1.tr (E19.tr (E24.tr (E44.tr (E60.tr (E69.tr (E85.tr (E94.tr E103))))))))))).2.2) i127) (fun m127 em127 E127 => ?_)
    have hw := hw m127 em127
    refine x_iconst HE dX4_hand_128 (by decide) ?_
    refine x_istore HE (lo' := [some (rV x0), some (iV r24), some (iV y35), some (iV y113), some (iV 1)]) dX4_hand_129 (Nat.le_of_ble_eq_true rfl) rfl ?_
    refine Wx.mask [true, true, false, true, true] (lo2 := [some (rV x0), some (iV r24), none, some (iV y113), some (iV 1)]) rfl ?_
    exact wl_X4_hand_131 HE hr f0 hw
  · have hw := hw.2 c8
    refine x_aload_n HE 0 dX4_hand_11 rfl rfl ?_
    refine x_bipush HE dX4_hand_12 (by decide) ?_
    refine x_callV HE dX4_hand_14 rfl (fun l => k_X4_noLess (f0.ext (EB.tr E1)) l hw) (As := [iV (-100)]) (rest := []) rfl xc10 (Lay_X4.tag (f0.ext (EB.tr E1))) (lw_V q2320 q2322 qs105 q129 q2323) hy_X4_noLess rfl rfl (Nat.le_of_ble_eq_true rfl) (Nat.le_of_ble_eq_true rfl) (Nat.le_of_ble_eq_true rfl) (kkI (fun r14 m14 E14 hw => ?_))
    have hw := hw E14
    exact x_iret HE hr dX4_hand_17 hw
theorem k_X4_hand {G : GT} {x0 : Int} {Q : Int → Hp → Prop} {h : Hp} (f0 : Lay_X4 h x0) (l : Launch) (hw : g_X4_hand x0 Q h) : XM G l yX4_hand cX4_hand 5 (some .int) 7 166 [rV x0] (QI Q) h :=
  XM.of (by decide) (Nat.le_of_ble_eq_true rfl) (fun X HE hr hn => w_X4_hand_0 HE hr f0 hw)
def g_X4_hasCome_b17 (x0 x1 : Int) (Q : Int → Hp → Prop) (s0 : Int) (h : Hp) : Prop :=
  (s0 = 0 ∨ s0 = 1) ∧ Q s0 h
theorem w_X4_hasCome_17 {G : GT} {X : ET} {h0 : Hp} {x0 x1 : Int} (HE : XE G X cX4_hasCome 2 RX4 1 22 h0) (hr : XR X (some .boolean)) (f0 : Lay_X4 h0 x0) {Q : Int → Hp → Prop} {s0 : Int} {h : Hp} (hw : g_X4_hasCome_b17 x0 x1 Q s0 h) : Wx G X h0 (QI Q) h 17 [some (rV x0), some (iV x1)] [iV s0] := by
  refine Wx.start (fun EB => ?_)
  unfold g_X4_hasCome_b17 at hw
  exact x_zret HE hr dX4_hasCome_17 hw.1 hw.2
def g_X4_hasCome (x0 x1 : Int) (Q : Int → Hp → Prop) (h : Hp) : Prop :=
  g_X4_its (x0 + 5) x1 0 (fun r6 m6 => Ext h m6 → (((r6 = 0) → (g_X4_hasCome_b17 x0 x1 Q 0 m6)) ∧ ((r6 ≠ 0) → (g_X4_hasCome_b17 x0 x1 Q 1 m6)))) h
theorem w_X4_hasCome_0 {G : GT} {X : ET} {h0 : Hp} {x0 x1 : Int} (HE : XE G X cX4_hasCome 2 RX4 1 22 h0) (hr : XR X (some .boolean)) (f0 : Lay_X4 h0 x0) {Q : Int → Hp → Prop} {h : Hp} (hw : g_X4_hasCome x0 x1 Q h) : Wx G X h0 (QI Q) h 0 [some (rV x0), some (iV x1)] [] := by
  refine Wx.start (fun EB => ?_)
  unfold g_X4_hasCome at hw
  refine x_aload_n HE 0 dX4_hasCome_0 rfl rfl ?_
  refine x_gR HE dX4_hasCome_1 fd_X4_17 q1854 (Or.inl rfl) (Lay_X4.tag (f0.ext EB)) (Lay_X4_17 (f0.ext EB)).1 ?_
  refine x_iload_n HE 1 dX4_hasCome_4 rfl rfl ?_
  refine x_iconst HE dX4_hasCome_5 (by decide) ?_
  refine x_callS HE dX4_hasCome_6 rfl (fun l => k_X4_its ⟨(Lay_X4_17 (f0.ext EB)).2.1, (Lay_X4_17 (f0.ext EB)).2.2⟩ l hw) (As := [rV (x0 + 5), iV x1, iV 0]) (rest := []) rfl (lw_S q2168 q2169 q129 q2170) hy_X4_its.2 rfl rfl (Nat.le_of_ble_eq_true rfl) (Nat.le_of_ble_eq_true rfl) (Nat.le_of_ble_eq_true rfl) (kkI (fun r6 m6 E6 hw => ?_))
  have hw := hw E6
  refine x_if_eq HE 16 dX4_hasCome_9 (by decide) (fun c9 => ?_) (fun c9 => ?_)
  · have hw := hw.1 c9
    refine x_iconst HE dX4_hasCome_16 (by decide) ?_
    exact w_X4_hasCome_17 HE hr f0 hw
  · have hw := hw.2 c9
    refine x_iconst HE dX4_hasCome_12 (by decide) ?_
    refine x_goto HE 17 dX4_hasCome_13 (by decide) ?_
    exact w_X4_hasCome_17 HE hr f0 hw
theorem k_X4_hasCome {G : GT} {x0 x1 : Int} {Q : Int → Hp → Prop} {h : Hp} (f0 : Lay_X4 h x0) (l : Launch) (hw : g_X4_hasCome x0 x1 Q h) : XM G l yX4_hasCome cX4_hasCome 2 (some .boolean) 1 22 [rV x0, iV x1] (QI Q) h :=
  XM.of (by decide) (Nat.le_of_ble_eq_true rfl) (fun X HE hr hn => w_X4_hasCome_0 HE hr f0 hw)
def g_X4_beforehand_b46 (x0 x1 : Int) (Q : Int → Hp → Prop) (h : Hp) : Prop :=
  ∀ m48 : Hp, m48 = setF h x0 11 5 → (Q (-1000) m48)
theorem w_X4_beforehand_46 {G : GT} {X : ET} {h0 : Hp} {x0 x1 : Int} (HE : XE G X cX4_beforehand 3 RX4 7 166 h0) (hr : XR X (some .int)) (f0 : Lay_X4 h0 x0) {Q : Int → Hp → Prop} {h : Hp} (hw : g_X4_beforehand_b46 x0 x1 Q  h) : Wx G X h0 (QI Q) h 46 [some (rV x0), some (iV x1), none] [] := by
  refine Wx.start (fun EB => ?_)
  unfold g_X4_beforehand_b46 at hw
  refine x_aload_n HE 0 dX4_beforehand_46 rfl rfl ?_
  refine x_iconst HE dX4_beforehand_47 (by decide) ?_
  refine x_pI HE dX4_beforehand_48 fd_X4_11 q1848 (Or.inl rfl) (Or.inl rfl) (nf_int _) (Lay_X4.tag (f0.ext EB)) (nro (by decide)) (Or.inl nf_X4_11) (fun m48 em48 E48 => ?_)
  have hw := hw m48 em48
  refine x_sipush HE dX4_beforehand_51 (by decide) ?_
  exact x_iret HE hr dX4_beforehand_54 hw
def g_X4_beforehand (x0 x1 : Int) (Q : Int → Hp → Prop) (h : Hp) : Prop :=
  g_X4_good x0 (fun m1 => Ext h m1 → (g_X4_isPerson x0 x1 (fun r6 m6 => Ext m1 m6 → (((r6 ≠ 0) → (g_X4_hasCome x0 x1 (fun r22 m22 => Ext m6 m22 → (((r22 ≠ 0) → (g_X4_beforehand_b46 x0 x1 Q m22)) ∧ ((r22 = 0) → ((i32 (7 * x1)) ∧ ((i32 (41 + (7 * x1))) ∧ ((i32 ((41 + (7 * x1)) + 6)) ∧ (((0 : Int) ≤ ((41 + (7 * x1)) + 6) ∧ ((41 + (7 * x1)) + 6) < 347) ∧ ((((hA m22 (x0 + 3) ((41 + (7 * x1)) + 6)) ≤ 0) → (g_X4_tellEvening x0 (fun m56 => Ext m22 m56 → (g_X4_sumOf x0 3 (fun r61 m61 => Ext m56 m61 → ((i32 (7 * x1)) ∧ ((i32 ((7 * x1) + 6)) ∧ (g_X4_man x0 x1 2 (fun r79 m79 => Ext m61 m79 → ((i32 (r79 + 1)) ∧ (((0 : Int) ≤ ((7 * x1) + 6) ∧ ((7 * x1) + 6) < 70) ∧ (∀ m84 : Hp, m84 = setA m79 (x0 + 10) ((7 * x1) + 6) (r79 + 1) → (g_X4_evening x0 (fun m86 => Ext m84 m86 → (g_X4_sumOf x0 3 (fun r92 m92 => Ext m86 m92 → ((i32 (r61 - r92)) ∧ (Q (r61 - r92) m92))) m86)) m84))))) m61)))) m56)) m22)) ∧ ((0 < (hA m22 (x0 + 3) ((41 + (7 * x1)) + 6))) → (g_X4_beforehand_b46 x0 x1 Q m22)))))))))) m6)) ∧ ((r6 = 0) → (g_X4_noLess x0 (-1000) (fun r16 m16 => Ext m6 m16 → (Q r16 m16)) m6)))) m1)) h
theorem w_X4_beforehand_0 {G : GT} {X : ET} {h0 : Hp} {x0 x1 : Int} (HE : XE G X cX4_beforehand 3 RX4 7 166 h0) (hr : XR X (some .int)) (f0 : Lay_X4 h0 x0) {Q : Int → Hp → Prop} {h : Hp} (hw : g_X4_beforehand x0 x1 Q h) : Wx G X h0 (QI Q) h 0 [some (rV x0), some (iV x1), none] [] := by
  refine Wx.start (fun EB => ?_)
  unfold g_X4_beforehand at hw
  refine x_aload_n HE 0 dX4_beforehand_0 rfl rfl ?_
  refine x_callV HE dX4_beforehand_1 rfl (fun l => k_X4_good (f0.ext EB) l hw) (As := []) (rest := []) rfl xc10 (Lay_X4.tag (f0.ext EB)) (lw_V q1955 q1957 qs55 q129 q1958) hy_X4_good rfl rfl (Nat.le_of_ble_eq_true rfl) (Nat.le_of_ble_eq_true rfl) (Nat.le_of_ble_eq_true rfl) (kkV (fun m1 E1 hw => ?_))
  have hw := hw E1
  refine x_aload_n HE 0 dX4_beforehand_4 rfl rfl ?_
  refine x_iload_n HE 1 dX4_beforehand_5 rfl rfl ?_
  refine x_callV HE dX4_beforehand_6 rfl (fun l => k_X4_isPerson (f0.ext (EB.tr E1)) l hw) (As := [iV x1]) (rest := []) rfl xc10 (Lay_X4.tag (f0.ext (EB.tr E1))) (lw_V q2144 q2146 qs84 q129 q2147) hy_X4_isPerson rfl rfl (Nat.le_of_ble_eq_true rfl) (Nat.le_of_ble_eq_true rfl) (Nat.le_of_ble_eq_true rfl) (kkI (fun r6 m6 E6 hw => ?_))
  have hw := hw E6
  refine x_if_ne HE 20 dX4_beforehand_9 (by decide) (fun c9 => ?_) (fun c9 => ?_)
  · have hw := hw.1 c9
    refine x_aload_n HE 0 dX4_beforehand_20 rfl rfl ?_
    refine x_iload_n HE 1 dX4_beforehand_21 rfl rfl ?_
    refine x_callV HE dX4_beforehand_22 rfl (fun l => k_X4_hasCome (f0.ext (EB.tr (E1.tr E6))) l hw) (As := [iV x1]) (rest := []) rfl xc10 (Lay_X4.tag (f0.ext (EB.tr (E1.tr E6)))) (lw_V q2328 q2330 qs106 q129 q2331) hy_X4_hasCome rfl rfl (Nat.le_of_ble_eq_true rfl) (Nat.le_of_ble_eq_true rfl) (Nat.le_of_ble_eq_true rfl) (kkI (fun r22 m22 E22 hw => ?_))
    have hw := hw E22
    refine x_if_ne HE 46 dX4_beforehand_25 (by decide) (fun c25 => ?_) (fun c25 => ?_)
    · have hw := hw.1 c25
      exact w_X4_beforehand_46 HE hr f0 hw
    · have hw := hw.2 c25
      refine x_aload_n HE 0 dX4_beforehand_28 rfl rfl ?_
      refine x_gR HE dX4_beforehand_29 fd_X4_15 q1852 (Or.inl rfl) (Lay_X4.tag (f0.ext (EB.tr (E1.tr (E6.tr E22))))) (Lay_X4_15 (f0.ext (EB.tr (E1.tr (E6.tr E22))))).1 ?_
      refine x_bipush HE dX4_beforehand_32 (by decide) ?_
      refine x_bipush HE dX4_beforehand_34 (by decide) ?_
      refine x_iload_n HE 1 dX4_beforehand_36 rfl rfl ?_
      obtain ⟨v37, hw⟩ := hw
      refine x_imul HE dX4_beforehand_37 v37 ?_
      obtain ⟨v38, hw⟩ := hw
      refine x_iadd HE dX4_beforehand_38 v38 ?_
      refine x_bipush HE dX4_beforehand_39 (by decide) ?_
      obtain ⟨v41, hw⟩ := hw
      refine x_iadd HE dX4_beforehand_41 v41 ?_
      obtain ⟨i42, hw⟩ := hw
      refine x_iald HE dX4_beforehand_42 (t := 1) (by decide) ((Lay_X4_15 (f0.ext (EB.tr (E1.tr (E6.tr E22))))).2.1) (ix_of ((Lay_X4_15 (f0.ext (EB.tr (E1.tr (E6.tr E22))))).2.2) i42) rfl ?_
      refine x_if_le HE 55 dX4_beforehand_43 (by decide) (fun c43 => ?_) (fun c43 => ?_)
      · have hw := hw.1 c43
        refine x_aload_n HE 0 dX4_beforehand_55 rfl rfl ?_
        refine x_callV HE dX4_beforehand_56 rfl (fun l => k_X4_tellEvening (f0.ext (EB.tr (E1.tr (E6.tr E22)))) l hw) (As := []) (rest := []) rfl xc10 (Lay_X4.tag (f0.ext (EB.tr (E1.tr (E6.tr E22))))) (lw_V q2222 q2224 qs94 q129 q2225) hy_X4_tellEvening rfl rfl (Nat.le_of_ble_eq_true rfl) (Nat.le_of_ble_eq_true rfl) (Nat.le_of_ble_eq_true rfl) (kkV (fun m56 E56 hw => ?_))
        have hw := hw E56
        refine x_aload_n HE 0 dX4_beforehand_59 rfl rfl ?_
        refine x_iconst HE dX4_beforehand_60 (by decide) ?_
        refine x_callV HE dX4_beforehand_61 rfl (fun l => k_X4_sumOf (f0.ext (EB.tr (E1.tr (E6.tr (E22.tr E56))))) l hw) (As := [iV 3]) (rest := []) rfl xc10 (Lay_X4.tag (f0.ext (EB.tr (E1.tr (E6.tr (E22.tr E56)))))) (lw_V q2285 q2287 qs103 q129 q2288) hy_X4_sumOf rfl rfl (Nat.le_of_ble_eq_true rfl) (Nat.le_of_ble_eq_true rfl) (Nat.le_of_ble_eq_true rfl) (kkI (fun r61 m61 E61 hw => ?_))
        have hw := hw E61
        refine x_istore_n HE 2 (lo' := [some (rV x0), some (iV x1), some (iV r61)]) dX4_beforehand_64 rfl (Nat.le_of_ble_eq_true rfl) rfl ?_
        refine x_aload_n HE 0 dX4_beforehand_65 rfl rfl ?_
        refine x_gR HE dX4_beforehand_66 fd_X4_24 q1861 (Or.inl rfl) (Lay_X4.tag (f0.ext (EB.tr (E1.tr (E6.tr (E22.tr (E56.tr E61))))))) (Lay_X4_24 (f0.ext (EB.tr (E1.tr (E6.tr (E22.tr (E56.tr E61))))))).1 ?_
        refine x_bipush HE dX4_beforehand_69 (by decide) ?_
        refine x_iload_n HE 1 dX4_beforehand_71 rfl rfl ?_
        obtain ⟨v72, hw⟩ := hw
        refine x_imul HE dX4_beforehand_72 v72 ?_
        refine x_bipush HE dX4_beforehand_73 (by decide) ?_
        obtain ⟨v75, hw⟩ := hw
        refine x_iadd HE dX4_beforehand_75 v75 ?_
        refine x_aload_n HE 0 dX4_beforehand_76 rfl rfl ?_
        refine x_iload_n HE 1 dX4_beforehand_77 rfl rfl ?_
        refine x_iconst HE dX4_beforehand_78 (by decide) ?_
        refine x_callV HE dX4_beforehand_79 rfl (fun l => k_X4_man (f0.ext (EB.tr (E1.tr (E6.tr (E22.tr (E56.tr E61)))))) l hw) (As := [iV x1, iV 2]) (rest := [iV ((7 * x1) + 6), rV (x0 + 10)]) rfl xc10 (Lay_X4.tag (f0.ext (EB.tr (E1.tr (E6.tr (E22.tr (E56.tr E61))))))) (lw_V q2124 q2126 qs82 q129 q2127) hy_X4_man rfl rfl (Nat.le_of_ble_eq_true rfl) (Nat.le_of_ble_eq_true rfl) (Nat.le_of_ble_eq_true rfl) (kkI (fun r79 m79 E79 hw => ?_))
        have hw := hw E79
        refine x_iconst HE dX4_beforehand_82 (by decide) ?_
        obtain ⟨v83, hw⟩ := hw
        refine x_iadd HE dX4_beforehand_83 v83 ?_
        obtain ⟨i84, hw⟩ := hw
        refine x_iast HE dX4_beforehand_84 ((Lay_X4_24 (f0.ext (EB.tr (E1.tr (E6.tr (E22.tr (E56.tr (E61.tr E79)))))))).2.1) (ix_of ((Lay_X4_24 (f0.ext (EB.tr (E1.tr (E6.tr (E22.tr (E56.tr (E61.tr E79)))))))).2.2) i84) (fun m84 em84 E84 => ?_)
        have hw := hw m84 em84
        refine x_aload_n HE 0 dX4_beforehand_85 rfl rfl ?_
        refine x_callV HE dX4_beforehand_86 rfl (fun l => k_X4_evening (f0.ext (EB.tr (E1.tr (E6.tr (E22.tr (E56.tr (E61.tr (E79.tr E84)))))))) l hw) (As := []) (rest := []) rfl xc10 (Lay_X4.tag (f0.ext (EB.tr (E1.tr (E6.tr (E22.tr (E56.tr (E61.tr (E79.tr E84))))))))) (lw_V q2226 q2228 qs95 q129 q2229) hy_X4_evening rfl rfl (Nat.le_of_ble_eq_true rfl) (Nat.le_of_ble_eq_true rfl) (Nat.le_of_ble_eq_true rfl) (kkV (fun m86 E86 hw => ?_))
        have hw := hw E86
        refine x_iload_n HE 2 dX4_beforehand_89 rfl rfl ?_
        refine x_aload_n HE 0 dX4_beforehand_90 rfl rfl ?_
        refine x_iconst HE dX4_beforehand_91 (by decide) ?_
        refine x_callV HE dX4_beforehand_92 rfl (fun l => k_X4_sumOf (f0.ext (EB.tr (E1.tr (E6.tr (E22.tr (E56.tr (E61.tr (E79.tr (E84.tr E86))))))))) l hw) (As := [iV 3]) (rest := [iV r61]) rfl xc10 (Lay_X4.tag (f0.ext (EB.tr (E1.tr (E6.tr (E22.tr (E56.tr (E61.tr (E79.tr (E84.tr E86)))))))))) (lw_V q2285 q2287 qs103 q129 q2288) hy_X4_sumOf rfl rfl (Nat.le_of_ble_eq_true rfl) (Nat.le_of_ble_eq_true rfl) (Nat.le_of_ble_eq_true rfl) (kkI (fun r92 m92 E92 hw => ?_))
        have hw := hw E92
        obtain ⟨v95, hw⟩ := hw
        refine x_isub HE dX4_beforehand_95 v95 ?_
        exact x_iret HE hr dX4_beforehand_96 hw
      · have hw := hw.2 c43
        exact w_X4_beforehand_46 HE hr f0 hw
  · have hw := hw.2 c9
    refine x_aload_n HE 0 dX4_beforehand_12 rfl rfl ?_
    refine x_sipush HE dX4_beforehand_13 (by decide) ?_
    refine x_callV HE dX4_beforehand_16 rfl (fun l => k_X4_noLess (f0.ext (EB.tr (E1.tr E6))) l hw) (As := [iV (-1000)]) (rest := []) rfl xc10 (Lay_X4.tag (f0.ext (EB.tr (E1.tr E6)))) (lw_V q2320 q2322 qs105 q129 q2323) hy_X4_noLess rfl rfl (Nat.le_of_ble_eq_true rfl) (Nat.le_of_ble_eq_true rfl) (Nat.le_of_ble_eq_true rfl) (kkI (fun r16 m16 E16 hw => ?_))
    have hw := hw E16
    exact x_iret HE hr dX4_beforehand_19 hw
theorem k_X4_beforehand {G : GT} {x0 x1 : Int} {Q : Int → Hp → Prop} {h : Hp} (f0 : Lay_X4 h x0) (l : Launch) (hw : g_X4_beforehand x0 x1 Q h) : XM G l yX4_beforehand cX4_beforehand 3 (some .int) 7 166 [rV x0, iV x1] (QI Q) h :=
  XM.of (by decide) (Nat.le_of_ble_eq_true rfl) (fun X HE hr hn => w_X4_beforehand_0 HE hr f0 hw)
def g_X4_waitIfHas_b24 (x0 x1 : Int) (Q : Int → Hp → Prop) (s0 : Int) (h : Hp) : Prop :=
  Q s0 h
theorem w_X4_waitIfHas_24 {G : GT} {X : ET} {h0 : Hp} {x0 x1 : Int} (HE : XE G X cX4_waitIfHas 2 RX4 6 146 h0) (hr : XR X (some .int)) (f0 : Lay_X4 h0 x0) {Q : Int → Hp → Prop} {s0 : Int} {h : Hp} (hw : g_X4_waitIfHas_b24 x0 x1 Q s0 h) : Wx G X h0 (QI Q) h 24 [some (rV x0), some (iV x1)] [iV s0] := by
  refine Wx.start (fun EB => ?_)
  unfold g_X4_waitIfHas_b24 at hw
  exact x_iret HE hr dX4_waitIfHas_24 hw
def g_X4_waitIfHas (x0 x1 : Int) (Q : Int → Hp → Prop) (h : Hp) : Prop :=
  g_X4_evening x0 (fun m1 => Ext h m1 → (g_X4_fateOf x0 x1 (fun r6 m6 => Ext m1 m6 → (((2 ≤ r6) → (g_X4_waitIfHas_b24 x0 x1 Q 1000000 m6)) ∧ ((r6 < 2) → (g_X4_waitOf x0 x1 (fun r15 m15 => Ext m6 m15 → (g_X4_waitIfHas_b24 x0 x1 Q r15 m15)) m6)))) m1)) h
theorem w_X4_waitIfHas_0 {G : GT} {X : ET} {h0 : Hp} {x0 x1 : Int} (HE : XE G X cX4_waitIfHas 2 RX4 6 146 h0) (hr : XR X (some .int)) (f0 : Lay_X4 h0 x0) {Q : Int → Hp → Prop} {h : Hp} (hw : g_X4_waitIfHas x0 x1 Q h) : Wx G X h0 (QI Q) h 0 [some (rV x0), some (iV x1)] [] := by
  refine Wx.start (fun EB => ?_)
  unfold g_X4_waitIfHas at hw
  refine x_aload_n HE 0 dX4_waitIfHas_0 rfl rfl ?_
  refine x_callV HE dX4_waitIfHas_1 rfl (fun l => k_X4_evening (f0.ext EB) l hw) (As := []) (rest := []) rfl xc10 (Lay_X4.tag (f0.ext EB)) (lw_V q2226 q2228 qs95 q129 q2229) hy_X4_evening rfl rfl (Nat.le_of_ble_eq_true rfl) (Nat.le_of_ble_eq_true rfl) (Nat.le_of_ble_eq_true rfl) (kkV (fun m1 E1 hw => ?_))
  have hw := hw E1
  refine x_aload_n HE 0 dX4_waitIfHas_4 rfl rfl ?_
  refine x_iload_n HE 1 dX4_waitIfHas_5 rfl rfl ?_
  refine x_callV HE dX4_waitIfHas_6 rfl (fun l => k_X4_fateOf (f0.ext (EB.tr E1)) l hw) (As := [iV x1]) (rest := []) rfl xc10 (Lay_X4.tag (f0.ext (EB.tr E1))) (lw_V q2238 q2240 qs98 q129 q2241) hy_X4_fateOf rfl rfl (Nat.le_of_ble_eq_true rfl) (Nat.le_of_ble_eq_true rfl) (Nat.le_of_ble_eq_true rfl) (kkI (fun r6 m6 E6 hw => ?_))
  have hw := hw E6
  refine x_iconst HE dX4_waitIfHas_9 (by decide) ?_
  refine x_ic_ge HE 21 dX4_waitIfHas_10 (by decide) (fun c10 => ?_) (fun c10 => ?_)
  · have hw := hw.1 c10
    refine x_ldcwI (n := 1000000) HE dX4_waitIfHas_21 q2156 (by unfold i32; decide) rfl ?_
    exact w_X4_waitIfHas_24 HE hr f0 hw
  · have hw := hw.2 c10
    refine x_aload_n HE 0 dX4_waitIfHas_13 rfl rfl ?_
    refine x_iload_n HE 1 dX4_waitIfHas_14 rfl rfl ?_
    refine x_callV HE dX4_waitIfHas_15 rfl (fun l => k_X4_waitOf (f0.ext (EB.tr (E1.tr E6))) l hw) (As := [iV x1]) (rest := []) rfl xc10 (Lay_X4.tag (f0.ext (EB.tr (E1.tr E6)))) (lw_V q2246 q2248 qs99 q129 q2249) hy_X4_waitOf rfl rfl (Nat.le_of_ble_eq_true rfl) (Nat.le_of_ble_eq_true rfl) (Nat.le_of_ble_eq_true rfl) (kkI (fun r15 m15 E15 hw => ?_))
    have hw := hw E15
    refine x_goto HE 24 dX4_waitIfHas_18 (by decide) ?_
    exact w_X4_waitIfHas_24 HE hr f0 hw
theorem k_X4_waitIfHas {G : GT} {x0 x1 : Int} {Q : Int → Hp → Prop} {h : Hp} (f0 : Lay_X4 h x0) (l : Launch) (hw : g_X4_waitIfHas x0 x1 Q h) : XM G l yX4_waitIfHas cX4_waitIfHas 2 (some .int) 6 146 [rV x0, iV x1] (QI Q) h :=
  XM.of (by decide) (Nat.le_of_ble_eq_true rfl) (fun X HE hr hn => w_X4_waitIfHas_0 HE hr f0 hw)
def g_X4_bestPlace_b125 (x0 x1 : Int) (Q : Int → Hp → Prop) (l2 l3 l4 : Int) (h : Hp) : Prop :=
  ((0 : Int) ≤ l2 ∧ l2 < 108) ∧ (∀ m131 : Hp, m131 = setA h (x0 + 5) l2 l3 → (Q l4 m131))
theorem w_X4_bestPlace_125 {G : GT} {X : ET} {h0 : Hp} {x0 x1 : Int} (HE : XE G X cX4_bestPlace 8 RX4 7 167 h0) (hr : XR X (some .int)) (f0 : Lay_X4 h0 x0) {Q : Int → Hp → Prop} {l2 l3 l4 : Int} {h : Hp} (hw : g_X4_bestPlace_b125 x0 x1 Q l2 l3 l4 h) : Wx G X h0 (QI Q) h 125 [some (rV x0), some (iV x1), some (iV l2), some (iV l3), some (iV l4), none, none, none] [] := by
  refine Wx.start (fun EB => ?_)
  unfold g_X4_bestPlace_b125 at hw
  refine x_aload_n HE 0 dX4_bestPlace_125 rfl rfl ?_
  refine x_gR HE dX4_bestPlace_126 fd_X4_17 q1854 (Or.inl rfl) (Lay_X4.tag (f0.ext EB)) (Lay_X4_17 (f0.ext EB)).1 ?_
  refine x_iload_n HE 2 dX4_bestPlace_129 rfl rfl ?_
  refine x_iload_n HE 3 dX4_bestPlace_130 rfl rfl ?_
  obtain ⟨i131, hw⟩ := hw
  refine x_iast HE dX4_bestPlace_131 ((Lay_X4_17 (f0.ext EB)).2.1) (ix_of ((Lay_X4_17 (f0.ext EB)).2.2) i131) (fun m131 em131 E131 => ?_)
  have hw := hw m131 em131
  refine x_iload HE dX4_bestPlace_132 rfl ?_
  exact x_iret HE hr dX4_bestPlace_134 hw
def g_X4_bestPlace_b119 (x0 x1 : Int) (Q : Int → Hp → Prop) (K75 : Int → Int → Int → Int → Int → Hp → Prop) (l2 l3 l4 l5 l6 : Int) (h : Hp) : Prop :=
  (i32 (l6 + 1)) ∧ (∀ y119 : Int, y119 = l6 + 1 → (K75 l2 l3 l4 l5 y119 h))
theorem w_X4_bestPlace_119 {G : GT} {X : ET} {h0 : Hp} {x0 x1 : Int} (HE : XE G X cX4_bestPlace 8 RX4 7 167 h0) (hr : XR X (some .int)) (f0 : Lay_X4 h0 x0) {Q : Int → Hp → Prop} {K75 : Int → Int → Int → Int → Int → Hp → Prop} (hK75 : ∀ (l2 l3 l4 l5 l6 : Int) (h : Hp), K75 l2 l3 l4 l5 l6 h → Wx G X h0 (QI Q) h 75 [some (rV x0), some (iV x1), some (iV l2), some (iV l3), some (iV l4), some (iV l5), some (iV l6), none] []) {l2 l3 l4 l5 l6 : Int} {h : Hp} (hw : g_X4_bestPlace_b119 x0 x1 Q K75 l2 l3 l4 l5 l6 h) : Wx G X h0 (QI Q) h 119 [some (rV x0), some (iV x1), some (iV l2), some (iV l3), some (iV l4), some (iV l5), some (iV l6), none] [] := by
  refine Wx.start (fun EB => ?_)
  unfold g_X4_bestPlace_b119 at hw
  obtain ⟨v119, hw⟩ := hw
  refine x_iincN HE (fun y119 => [some (rV x0), some (iV x1), some (iV l2), some (iV l3), some (iV l4), some (iV l5), some (iV y119), none]) dX4_bestPlace_119 rfl v119 (Nat.le_of_ble_eq_true rfl) (fun _ => rfl) (fun y119 ey119 => ?_)
  have hw := hw y119 ey119
  refine x_goto HE 75 dX4_bestPlace_122 (by decide) ?_
  exact hK75 _ _ _ _ _ _ hw
def g_X4_bestPlace_L75 (x0 x1 : Int) (Q : Int → Hp → Prop) (K75 : Int → Int → Int → Int → Int → Hp → Prop) (l2 l3 l4 l5 l6 : Int) (h : Hp) : Prop :=
  (((hA h (x0 + 3) 1) ≤ l6) → (g_X4_bestPlace_b125 x0 x1 Q l2 l3 l4 h)) ∧ ((l6 < (hA h (x0 + 3) 1)) → (((0 : Int) ≤ l2 ∧ l2 < 108) ∧ (∀ m93 : Hp, m93 = setA h (x0 + 5) l2 l6 → (g_X4_waitIfHas x0 x1 (fun r96 m96 => Ext m93 m96 → (((r96 < l5) → (g_X4_bestPlace_b119 x0 x1 Q K75 l2 l3 l6 r96 l6 m96)) ∧ ((l5 ≤ r96) → (g_X4_bestPlace_b119 x0 x1 Q K75 l2 l3 l4 l5 l6 m96)))) m93))))
theorem w_X4_bestPlace_75 {G : GT} {X : ET} {h0 : Hp} {x0 x1 : Int} (HE : XE G X cX4_bestPlace 8 RX4 7 167 h0) (hr : XR X (some .int)) (f0 : Lay_X4 h0 x0) {Q : Int → Hp → Prop} {K75 : Int → Int → Int → Int → Int → Hp → Prop} (hK75 : ∀ (l2 l3 l4 l5 l6 : Int) (h : Hp), K75 l2 l3 l4 l5 l6 h → Wx G X h0 (QI Q) h 75 [some (rV x0), some (iV x1), some (iV l2), some (iV l3), some (iV l4), some (iV l5), some (iV l6), none] []) {l2 l3 l4 l5 l6 : Int} {h : Hp} (hw : g_X4_bestPlace_L75 x0 x1 Q K75 l2 l3 l4 l5 l6 h) : Wx G X h0 (QI Q) h 75 [some (rV x0), some (iV x1), some (iV l2), some (iV l3), some (iV l4), some (iV l5), some (iV l6), none] [] := by
  refine Wx.start (fun EB => ?_)
  unfold g_X4_bestPlace_L75 at hw
  refine x_iload HE dX4_bestPlace_75 rfl ?_
  refine x_aload_n HE 0 dX4_bestPlace_77 rfl rfl ?_
  refine x_gR HE dX4_bestPlace_78 fd_X4_15 q1852 (Or.inl rfl) (Lay_X4.tag (f0.ext EB)) (Lay_X4_15 (f0.ext EB)).1 ?_
  refine x_iconst HE dX4_bestPlace_81 (by decide) ?_
  refine x_iald HE dX4_bestPlace_82 (t := 1) (by decide) ((Lay_X4_15 (f0.ext EB)).2.1) (ix_of ((Lay_X4_15 (f0.ext EB)).2.2) (by decide)) rfl ?_
  refine x_ic_ge HE 125 dX4_bestPlace_83 (by decide) (fun c83 => ?_) (fun c83 => ?_)
  · have hw := hw.1 c83
    refine Wx.mask [true, true, true, true, true, false, false, true] (lo2 := [some (rV x0), some (iV x1), some (iV l2), some (iV l3), some (iV l4), none, none, none]) rfl ?_
    exact w_X4_bestPlace_125 HE hr f0 hw
  · have hw := hw.2 c83
    refine x_aload_n HE 0 dX4_bestPlace_86 rfl rfl ?_
    refine x_gR HE dX4_bestPlace_87 fd_X4_17 q1854 (Or.inl rfl) (Lay_X4.tag (f0.ext EB)) (Lay_X4_17 (f0.ext EB)).1 ?_
    refine x_iload_n HE 2 dX4_bestPlace_90 rfl rfl ?_
    refine x_iload HE dX4_bestPlace_91 rfl ?_
    obtain ⟨i93, hw⟩ := hw
    refine x_iast HE dX4_bestPlace_93 ((Lay_X4_17 (f0.ext EB)).2.1) (ix_of ((Lay_X4_17 (f0.ext EB)).2.2) i93) (fun m93 em93 E93 => ?_)
    have hw := hw m93 em93
    refine x_aload_n HE 0 dX4_bestPlace_94 rfl rfl ?_
    refine x_iload_n HE 1 dX4_bestPlace_95 rfl rfl ?_
    refine x_callV HE dX4_bestPlace_96 rfl (fun l => k_X4_waitIfHas (f0.ext (EB.tr E93)) l hw) (As := [iV x1]) (rest := []) rfl xc10 (Lay_X4.tag (f0.ext (EB.tr E93))) (lw_V q2336 q2338 qs107 q129 q2339) hy_X4_waitIfHas rfl rfl (Nat.le_of_ble_eq_true rfl) (Nat.le_of_ble_eq_true rfl) (Nat.le_of_ble_eq_true rfl) (kkI (fun r96 m96 E96 hw => ?_))
    have hw := hw E96
    refine x_istore HE (lo' := [some (rV x0), some (iV x1), some (iV l2), some (iV l3), some (iV l4), some (iV l5), some (iV l6), some (iV r96)]) dX4_bestPlace_99 (Nat.le_of_ble_eq_true rfl) rfl ?_
    refine x_iload HE dX4_bestPlace_101 rfl ?_
    refine x_iload HE dX4_bestPlace_103 rfl ?_
    refine x_ic_lt HE 111 dX4_bestPlace_105 (by decide) (fun c105 => ?_) (fun c105 => ?_)
    · have hw := hw.1 c105
      refine x_iload HE dX4_bestPlace_111 rfl ?_
      refine x_istore HE (lo' := [some (rV x0), some (iV x1), some (iV l2), some (iV l3), some (iV l6), some (iV l5), some (iV l6), some (iV r96)]) dX4_bestPlace_113 (Nat.le_of_ble_eq_true rfl) rfl ?_
      refine x_iload HE dX4_bestPlace_115 rfl ?_
      refine x_istore HE (lo' := [some (rV x0), some (iV x1), some (iV l2), some (iV l3), some (iV l6), some (iV r96), some (iV l6), some (iV r96)]) dX4_bestPlace_117 (Nat.le_of_ble_eq_true rfl) rfl ?_
      refine Wx.mask [true, true, true, true, true, true, true, false] (lo2 := [some (rV x0), some (iV x1), some (iV l2), some (iV l3), some (iV l6), some (iV r96), some (iV l6), none]) rfl ?_
      exact w_X4_bestPlace_119 HE hr f0 hK75 hw
    · have hw := hw.2 c105
      refine x_goto HE 119 dX4_bestPlace_108 (by decide) ?_
      refine Wx.mask [true, true, true, true, true, true, true, false] (lo2 := [some (rV x0), some (iV x1), some (iV l2), some (iV l3), some (iV l4), some (iV l5), some (iV l6), none]) rfl ?_
      exact w_X4_bestPlace_119 HE hr f0 hK75 hw
theorem wl_X4_bestPlace_75 {G : GT} {X : ET} {h0 : Hp} {x0 x1 : Int} (HE : XE G X cX4_bestPlace 8 RX4 7 167 h0) (hr : XR X (some .int)) (f0 : Lay_X4 h0 x0) {Q : Int → Hp → Prop} {l2 l3 l4 l5 l6 : Int} {h : Hp} (hw : Lp5 (g_X4_bestPlace_L75 x0 x1 Q) l2 l3 l4 l5 l6 h) : Wx G X h0 (QI Q) h 75 [some (rV x0), some (iV x1), some (iV l2), some (iV l3), some (iV l4), some (iV l5), some (iV l6), none] [] := by
  obtain ⟨n, hw⟩ := hw
  induction n generalizing l2 l3 l4 l5 l6 h with
  | zero => exact hw.elim
  | succ n ih => exact w_X4_bestPlace_75 HE hr f0 (fun _ _ _ _ _ _ hk => ih hk) hw
def g_X4_bestPlace (x0 x1 : Int) (Q : Int → Hp → Prop) (h : Hp) : Prop :=
  g_X4_good x0 (fun m1 => Ext h m1 → (g_X4_isPerson x0 x1 (fun r6 m6 => Ext m1 m6 → (((r6 ≠ 0) → (g_X4_hasCome x0 x1 (fun r20 m20 => Ext m6 m20 → (((r20 = 0) → (g_X4_asTold x0 (fun m33 => Ext m20 m33 → (∀ m43 : Hp, m43 = setF m33 x0 26 (hA m33 (x0 + 3) 2) → ((i32 (8 * x1)) ∧ ((i32 (12 + (8 * x1))) ∧ ((i32 ((12 + (8 * x1)) + 1)) ∧ (∀ y55 : Int, y55 = ((12 + (8 * x1)) + 1) → (((0 : Int) ≤ y55 ∧ y55 < 108) ∧ (∀ y62 : Int, y62 = (hA m43 (x0 + 5) y55) → (Lp5 (g_X4_bestPlace_L75 x0 x1 Q) y55 y62 (-2) 1000000 0 m43))))))))) m20)) ∧ ((r20 ≠ 0) → (g_X4_no x0 5 (fun r28 m28 => Ext m20 m28 → (Q r28 m28)) m20)))) m6)) ∧ ((r6 = 0) → (g_X4_no x0 1 (fun r14 m14 => Ext m6 m14 → (Q r14 m14)) m6)))) m1)) h
theorem w_X4_bestPlace_0 {G : GT} {X : ET} {h0 : Hp} {x0 x1 : Int} (HE : XE G X cX4_bestPlace 8 RX4 7 167 h0) (hr : XR X (some .int)) (f0 : Lay_X4 h0 x0) {Q : Int → Hp → Prop} {h : Hp} (hw : g_X4_bestPlace x0 x1 Q h) : Wx G X h0 (QI Q) h 0 [some (rV x0), some (iV x1), none, none, none, none, none, none] [] := by
  refine Wx.start (fun EB => ?_)
  unfold g_X4_bestPlace at hw
  refine x_aload_n HE 0 dX4_bestPlace_0 rfl rfl ?_
  refine x_callV HE dX4_bestPlace_1 rfl (fun l => k_X4_good (f0.ext EB) l hw) (As := []) (rest := []) rfl xc10 (Lay_X4.tag (f0.ext EB)) (lw_V q1955 q1957 qs55 q129 q1958) hy_X4_good rfl rfl (Nat.le_of_ble_eq_true rfl) (Nat.le_of_ble_eq_true rfl) (Nat.le_of_ble_eq_true rfl) (kkV (fun m1 E1 hw => ?_))
  have hw := hw E1
  refine x_aload_n HE 0 dX4_bestPlace_4 rfl rfl ?_
  refine x_iload_n HE 1 dX4_bestPlace_5 rfl rfl ?_
  refine x_callV HE dX4_bestPlace_6 rfl (fun l => k_X4_isPerson (f0.ext (EB.tr E1)) l hw) (As := [iV x1]) (rest := []) rfl xc10 (Lay_X4.tag (f0.ext (EB.tr E1))) (lw_V q2144 q2146 qs84 q129 q2147) hy_X4_isPerson rfl rfl (Nat.le_of_ble_eq_true rfl) (Nat.le_of_ble_eq_true rfl) (Nat.le_of_ble_eq_true rfl) (kkI (fun r6 m6 E6 hw => ?_))
  have hw := hw E6
  refine x_if_ne HE 18 dX4_bestPlace_9 (by decide) (fun c9 => ?_) (fun c9 => ?_)
  · have hw := hw.1 c9
    refine x_aload_n HE 0 dX4_bestPlace_18 rfl rfl ?_
    refine x_iload_n HE 1 dX4_bestPlace_19 rfl rfl ?_
    refine x_callV HE dX4_bestPlace_20 rfl (fun l => k_X4_hasCome (f0.ext (EB.tr (E1.tr E6))) l hw) (As := [iV x1]) (rest := []) rfl xc10 (Lay_X4.tag (f0.ext (EB.tr (E1.tr E6)))) (lw_V q2328 q2330 qs106 q129 q2331) hy_X4_hasCome rfl rfl (Nat.le_of_ble_eq_true rfl) (Nat.le_of_ble_eq_true rfl) (Nat.le_of_ble_eq_true rfl) (kkI (fun r20 m20 E20 hw => ?_))
    have hw := hw E20
    refine x_if_eq HE 32 dX4_bestPlace_23 (by decide) (fun c23 => ?_) (fun c23 => ?_)
    · have hw := hw.1 c23
      refine x_aload_n HE 0 dX4_bestPlace_32 rfl rfl ?_
      refine x_callV HE dX4_bestPlace_33 rfl (fun l => k_X4_asTold (f0.ext (EB.tr (E1.tr (E6.tr E20)))) l hw) (As := []) (rest := []) rfl xc10 (Lay_X4.tag (f0.ext (EB.tr (E1.tr (E6.tr E20))))) (lw_V q2116 q2118 qs80 q129 q2119) hy_X4_asTold rfl rfl (Nat.le_of_ble_eq_true rfl) (Nat.le_of_ble_eq_true rfl) (Nat.le_of_ble_eq_true rfl) (kkV (fun m33 E33 hw => ?_))
      have hw := hw E33
      refine x_aload_n HE 0 dX4_bestPlace_36 rfl rfl ?_
      refine x_aload_n HE 0 dX4_bestPlace_37 rfl rfl ?_
      refine x_gR HE dX4_bestPlace_38 fd_X4_15 q1852 (Or.inl rfl) (Lay_X4.tag (f0.ext (EB.tr (E1.tr (E6.tr (E20.tr E33)))))) (Lay_X4_15 (f0.ext (EB.tr (E1.tr (E6.tr (E20.tr E33)))))).1 ?_
      refine x_iconst HE dX4_bestPlace_41 (by decide) ?_
      refine x_iald HE dX4_bestPlace_42 (t := 1) (by decide) ((Lay_X4_15 (f0.ext (EB.tr (E1.tr (E6.tr (E20.tr E33)))))).2.1) (ix_of ((Lay_X4_15 (f0.ext (EB.tr (E1.tr (E6.tr (E20.tr E33)))))).2.2) (by decide)) rfl ?_
      refine x_pI HE dX4_bestPlace_43 fd_X4_26 q1863 (Or.inl rfl) (Or.inl rfl) (nf_int _) (Lay_X4.tag (f0.ext (EB.tr (E1.tr (E6.tr (E20.tr E33)))))) (nro (by decide)) (Or.inl nf_X4_26) (fun m43 em43 E43 => ?_)
      have hw := hw m43 em43
      refine x_bipush HE dX4_bestPlace_46 (by decide) ?_
      refine x_bipush HE dX4_bestPlace_48 (by decide) ?_
      refine x_iload_n HE 1 dX4_bestPlace_50 rfl rfl ?_
      obtain ⟨v51, hw⟩ := hw
      refine x_imul HE dX4_bestPlace_51 v51 ?_
      obtain ⟨v52, hw⟩ := hw
      refine x_iadd HE dX4_bestPlace_52 v52 ?_
      refine x_iconst HE dX4_bestPlace_53 (by decide) ?_
      obtain ⟨v54, hw⟩ := hw
      refine x_iadd HE dX4_bestPlace_54 v54 ?_
      refine x_istore_nN HE 2 (fun y55 => [some (rV x0), some (iV x1), some (iV y55), none, none, none, none, none]) dX4_bestPlace_55 rfl (Nat.le_of_ble_eq_true rfl) (fun _ => rfl) (fun y55 ey55 => ?_)
      have hw := hw y55 ey55
      refine x_aload_n HE 0 dX4_bestPlace_56 rfl rfl ?_
      refine x_gR HE dX4_bestPlace_57 fd_X4_17 q1854 (Or.inl rfl) (Lay_X4.tag (f0.ext (EB.tr (E1.tr (E6.tr (E20.tr (E33.tr E43))))))) (Lay_X4_17 (f0.ext (EB.tr (E1.tr (E6.tr (E20.tr (E33.tr E43))))))).1 ?_
      refine x_iload_n HE 2 dX4_bestPlace_60 rfl rfl ?_
      obtain ⟨i61, hw⟩ := hw
      refine x_iald HE dX4_bestPlace_61 (t := 1) (by decide) ((Lay_X4_17 (f0.ext (EB.tr (E1.tr (E6.tr (E20.tr (E33.tr E43))))))).2.1) (ix_of ((Lay_X4_17 (f0.ext (EB.tr (E1.tr (E6.tr (E20.tr (E33.tr E43))))))).2.2) i61) rfl ?_
      refine x_istore_nN HE 3 (fun y62 => [some (rV x0), some (iV x1), some (iV y55), some (iV y62), none, none, none, none]) dX4_bestPlace_62 rfl (Nat.le_of_ble_eq_true rfl) (fun _ => rfl) (fun y62 ey62 => ?_)
      have hw := hw y62 ey62
      refine x_bipush HE dX4_bestPlace_63 (by decide) ?_
      refine x_istore HE (lo' := [some (rV x0), some (iV x1), some (iV y55), some (iV y62), some (iV (-2)), none, none, none]) dX4_bestPlace_65 (Nat.le_of_ble_eq_true rfl) rfl ?_
      refine x_ldcwI (n := 1000000) HE dX4_bestPlace_67 q2156 (by unfold i32; decide) rfl ?_
      refine x_istore HE (lo' := [some (rV x0), some (iV x1), some (iV y55), some (iV y62), some (iV (-2)), some (iV 1000000), none, none]) dX4_bestPlace_70 (Nat.le_of_ble_eq_true rfl) rfl ?_
      refine x_iconst HE dX4_bestPlace_72 (by decide) ?_
      refine x_istore HE (lo' := [some (rV x0), some (iV x1), some (iV y55), some (iV y62), some (iV (-2)), some (iV 1000000), some (iV 0), none]) dX4_bestPlace_73 (Nat.le_of_ble_eq_true rfl) rfl ?_
      exact wl_X4_bestPlace_75 HE hr f0 hw
    · have hw := hw.2 c23
      refine x_aload_n HE 0 dX4_bestPlace_26 rfl rfl ?_
      refine x_iconst HE dX4_bestPlace_27 (by decide) ?_
      refine x_callV HE dX4_bestPlace_28 rfl (fun l => k_X4_no (f0.ext (EB.tr (E1.tr (E6.tr E20)))) l hw) (As := [iV 5]) (rest := []) rfl xc10 (Lay_X4.tag (f0.ext (EB.tr (E1.tr (E6.tr E20))))) (lw_V q1962 q1964 qs56 q129 q1965) hy_X4_no rfl rfl (Nat.le_of_ble_eq_true rfl) (Nat.le_of_ble_eq_true rfl) (Nat.le_of_ble_eq_true rfl) (kkI (fun r28 m28 E28 hw => ?_))
      have hw := hw E28
      exact x_iret HE hr dX4_bestPlace_31 hw
  · have hw := hw.2 c9
    refine x_aload_n HE 0 dX4_bestPlace_12 rfl rfl ?_
    refine x_iconst HE dX4_bestPlace_13 (by decide) ?_
    refine x_callV HE dX4_bestPlace_14 rfl (fun l => k_X4_no (f0.ext (EB.tr (E1.tr E6))) l hw) (As := [iV 1]) (rest := []) rfl xc10 (Lay_X4.tag (f0.ext (EB.tr (E1.tr E6)))) (lw_V q1962 q1964 qs56 q129 q1965) hy_X4_no rfl rfl (Nat.le_of_ble_eq_true rfl) (Nat.le_of_ble_eq_true rfl) (Nat.le_of_ble_eq_true rfl) (kkI (fun r14 m14 E14 hw => ?_))
    have hw := hw E14
    exact x_iret HE hr dX4_bestPlace_17 hw
theorem k_X4_bestPlace {G : GT} {x0 x1 : Int} {Q : Int → Hp → Prop} {h : Hp} (f0 : Lay_X4 h x0) (l : Launch) (hw : g_X4_bestPlace x0 x1 Q h) : XM G l yX4_bestPlace cX4_bestPlace 8 (some .int) 7 167 [rV x0, iV x1] (QI Q) h :=
  XM.of (by decide) (Nat.le_of_ble_eq_true rfl) (fun X HE hr hn => w_X4_bestPlace_0 HE hr f0 hw)
def g_X4_beOf_b38 (x0 x1 x2 : Int) (Q : Hp → Prop) (s0 s1 s2 : Int) (h : Hp) : Prop :=
  (hT h s0 = 1) ∧ (((0 : Int) ≤ s1 ∧ s1 < hL h s0) ∧ (∀ m38 : Hp, m38 = setA h s0 s1 s2 → (Q m38)))
theorem w_X4_beOf_38 {G : GT} {X : ET} {h0 : Hp} {x0 x1 x2 : Int} (HE : XE G X cX4_beOf 3 RX4 0 0 h0) (hr : XR X none) (f0 : Lay_X4 h0 x0) {Q : Hp → Prop} {s0 s1 s2 : Int} {h : Hp} (hw : g_X4_beOf_b38 x0 x1 x2 Q s0 s1 s2 h) : Wx G X h0 (QV Q) h 38 [some (rV x0), some (iV x1), some (iV x2)] [iV s2, iV s1, rV s0] := by
  refine Wx.start (fun EB => ?_)
  unfold g_X4_beOf_b38 at hw
  obtain ⟨v38, hw⟩ := hw
  obtain ⟨i38, hw⟩ := hw
  refine x_iast HE dX4_beOf_38 v38 i38 (fun m38 em38 E38 => ?_)
  have hw := hw m38 em38
  exact x_vret HE hr dX4_beOf_39 hw
def g_X4_beOf_b32 (x0 x1 x2 : Int) (Q : Hp → Prop) (s0 s1 : Int) (h : Hp) : Prop :=
  g_X4_beOf_b38 x0 x1 x2 Q s0 s1 30 h
theorem w_X4_beOf_32 {G : GT} {X : ET} {h0 : Hp} {x0 x1 x2 : Int} (HE : XE G X cX4_beOf 3 RX4 0 0 h0) (hr : XR X none) (f0 : Lay_X4 h0 x0) {Q : Hp → Prop} {s0 s1 : Int} {h : Hp} (hw : g_X4_beOf_b32 x0 x1 x2 Q s0 s1 h) : Wx G X h0 (QV Q) h 32 [some (rV x0), some (iV x1), some (iV x2)] [iV s1, rV s0] := by
  refine Wx.start (fun EB => ?_)
  unfold g_X4_beOf_b32 at hw
  refine x_bipush HE dX4_beOf_32 (by decide) ?_
  refine x_goto HE 38 dX4_beOf_34 (by decide) ?_
  exact w_X4_beOf_38 HE hr f0 hw
def g_X4_beOf (x0 x1 x2 : Int) (Q : Hp → Prop) (h : Hp) : Prop :=
  (i32 (7 * x1)) ∧ ((i32 ((7 * x1) + 0)) ∧ (((0 : Int) ≤ ((7 * x1) + 0) ∧ ((7 * x1) + 0) < 70) ∧ (∀ m11 : Hp, m11 = setA h (x0 + 10) ((7 * x1) + 0) x2 → ((i32 (7 * x1)) ∧ ((i32 ((7 * x1) + 1)) ∧ (((x2 = 1) → (g_X4_beOf_b32 x0 x1 x2 Q (x0 + 10) ((7 * x1) + 1) m11)) ∧ ((x2 ≠ 1) → (((x2 ≠ 2) → (g_X4_beOf_b38 x0 x1 x2 Q (x0 + 10) ((7 * x1) + 1) 0 m11)) ∧ ((x2 = 2) → (g_X4_beOf_b32 x0 x1 x2 Q (x0 + 10) ((7 * x1) + 1) m11))))))))))
theorem w_X4_beOf_0 {G : GT} {X : ET} {h0 : Hp} {x0 x1 x2 : Int} (HE : XE G X cX4_beOf 3 RX4 0 0 h0) (hr : XR X none) (f0 : Lay_X4 h0 x0) {Q : Hp → Prop} {h : Hp} (hw : g_X4_beOf x0 x1 x2 Q h) : Wx G X h0 (QV Q) h 0 [some (rV x0), some (iV x1), some (iV x2)] [] := by
  refine Wx.start (fun EB => ?_)
  unfold g_X4_beOf at hw
  refine x_aload_n HE 0 dX4_beOf_0 rfl rfl ?_
  refine x_gR HE dX4_beOf_1 fd_X4_24 q1861 (Or.inl rfl) (Lay_X4.tag (f0.ext EB)) (Lay_X4_24 (f0.ext EB)).1 ?_
  refine x_bipush HE dX4_beOf_4 (by decide) ?_
  refine x_iload_n HE 1 dX4_beOf_6 rfl rfl ?_
  obtain ⟨v7, hw⟩ := hw
  refine x_imul HE dX4_beOf_7 v7 ?_
  refine x_iconst HE dX4_beOf_8 (by decide) ?_
  obtain ⟨v9, hw⟩ := hw
  refine x_iadd HE dX4_beOf_9 v9 ?_
  refine x_iload_n HE 2 dX4_beOf_10 rfl rfl ?_
  obtain ⟨i11, hw⟩ := hw
  refine x_iast HE dX4_beOf_11 ((Lay_X4_24 (f0.ext EB)).2.1) (ix_of ((Lay_X4_24 (f0.ext EB)).2.2) i11) (fun m11 em11 E11 => ?_)
  have hw := hw m11 em11
  refine x_aload_n HE 0 dX4_beOf_12 rfl rfl ?_
  refine x_gR HE dX4_beOf_13 fd_X4_24 q1861 (Or.inl rfl) (Lay_X4.tag (f0.ext (EB.tr E11))) (Lay_X4_24 (f0.ext (EB.tr E11))).1 ?_
  refine x_bipush HE dX4_beOf_16 (by decide) ?_
  refine x_iload_n HE 1 dX4_beOf_18 rfl rfl ?_
  obtain ⟨v19, hw⟩ := hw
  refine x_imul HE dX4_beOf_19 v19 ?_
  refine x_iconst HE dX4_beOf_20 (by decide) ?_
  obtain ⟨v21, hw⟩ := hw
  refine x_iadd HE dX4_beOf_21 v21 ?_
  refine x_iload_n HE 2 dX4_beOf_22 rfl rfl ?_
  refine x_iconst HE dX4_beOf_23 (by decide) ?_
  refine x_ic_eq HE 32 dX4_beOf_24 (by decide) (fun c24 => ?_) (fun c24 => ?_)
  · have hw := hw.1 c24
    exact w_X4_beOf_32 HE hr f0 hw
  · have hw := hw.2 c24
    refine x_iload_n HE 2 dX4_beOf_27 rfl rfl ?_
    refine x_iconst HE dX4_beOf_28 (by decide) ?_
    refine x_ic_ne HE 37 dX4_beOf_29 (by decide) (fun c29 => ?_) (fun c29 => ?_)
    · have hw := hw.1 c29
      refine x_iconst HE dX4_beOf_37 (by decide) ?_
      exact w_X4_beOf_38 HE hr f0 hw
    · have hw := hw.2 c29
      exact w_X4_beOf_32 HE hr f0 hw
theorem k_X4_beOf {G : GT} {x0 x1 x2 : Int} {Q : Hp → Prop} {h : Hp} (f0 : Lay_X4 h x0) (l : Launch) (hw : g_X4_beOf x0 x1 x2 Q h) : XM G l yX4_beOf cX4_beOf 3 none 0 0 [rV x0, iV x1, iV x2] (QV Q) h :=
  XM.of (by decide) (Nat.le_of_ble_eq_true rfl) (fun X HE hr hn => w_X4_beOf_0 HE hr f0 hw)
def g_X4_bestManner_b130 (x0 x1 : Int) (Q : Int → Hp → Prop) (l2 l3 l4 : Int) (h : Hp) : Prop :=
  ((0 : Int) ≤ l2 ∧ l2 < 108) ∧ (∀ m136 : Hp, m136 = setA h (x0 + 5) l2 l3 → (Q l4 m136))
theorem w_X4_bestManner_130 {G : GT} {X : ET} {h0 : Hp} {x0 x1 : Int} (HE : XE G X cX4_bestManner 8 RX4 7 167 h0) (hr : XR X (some .int)) (f0 : Lay_X4 h0 x0) {Q : Int → Hp → Prop} {l2 l3 l4 : Int} {h : Hp} (hw : g_X4_bestManner_b130 x0 x1 Q l2 l3 l4 h) : Wx G X h0 (QI Q) h 130 [some (rV x0), some (iV x1), some (iV l2), some (iV l3), some (iV l4), none, none, none] [] := by
  refine Wx.start (fun EB => ?_)
  unfold g_X4_bestManner_b130 at hw
  refine x_aload_n HE 0 dX4_bestManner_130 rfl rfl ?_
  refine x_gR HE dX4_bestManner_131 fd_X4_17 q1854 (Or.inl rfl) (Lay_X4.tag (f0.ext EB)) (Lay_X4_17 (f0.ext EB)).1 ?_
  refine x_iload_n HE 2 dX4_bestManner_134 rfl rfl ?_
  refine x_iload_n HE 3 dX4_bestManner_135 rfl rfl ?_
  obtain ⟨i136, hw⟩ := hw
  refine x_iast HE dX4_bestManner_136 ((Lay_X4_17 (f0.ext EB)).2.1) (ix_of ((Lay_X4_17 (f0.ext EB)).2.2) i136) (fun m136 em136 E136 => ?_)
  have hw := hw m136 em136
  refine x_iload HE dX4_bestManner_137 rfl ?_
  exact x_iret HE hr dX4_bestManner_139 hw
def g_X4_bestManner_b124 (x0 x1 : Int) (Q : Int → Hp → Prop) (K75 : Int → Int → Int → Int → Int → Hp → Prop) (l2 l3 l4 l5 l6 : Int) (h : Hp) : Prop :=
  (i32 (l6 + 1)) ∧ (∀ y124 : Int, y124 = l6 + 1 → (K75 l2 l3 l4 l5 y124 h))
theorem w_X4_bestManner_124 {G : GT} {X : ET} {h0 : Hp} {x0 x1 : Int} (HE : XE G X cX4_bestManner 8 RX4 7 167 h0) (hr : XR X (some .int)) (f0 : Lay_X4 h0 x0) {Q : Int → Hp → Prop} {K75 : Int → Int → Int → Int → Int → Hp → Prop} (hK75 : ∀ (l2 l3 l4 l5 l6 : Int) (h : Hp), K75 l2 l3 l4 l5 l6 h → Wx G X h0 (QI Q) h 75 [some (rV x0), some (iV x1), some (iV l2), some (iV l3), some (iV l4), some (iV l5), some (iV l6), none] []) {l2 l3 l4 l5 l6 : Int} {h : Hp} (hw : g_X4_bestManner_b124 x0 x1 Q K75 l2 l3 l4 l5 l6 h) : Wx G X h0 (QI Q) h 124 [some (rV x0), some (iV x1), some (iV l2), some (iV l3), some (iV l4), some (iV l5), some (iV l6), none] [] := by
  refine Wx.start (fun EB => ?_)
  unfold g_X4_bestManner_b124 at hw
  obtain ⟨v124, hw⟩ := hw
  refine x_iincN HE (fun y124 => [some (rV x0), some (iV x1), some (iV l2), some (iV l3), some (iV l4), some (iV l5), some (iV y124), none]) dX4_bestManner_124 rfl v124 (Nat.le_of_ble_eq_true rfl) (fun _ => rfl) (fun y124 ey124 => ?_)
  have hw := hw y124 ey124
  refine x_goto HE 75 dX4_bestManner_127 (by decide) ?_
  exact hK75 _ _ _ _ _ _ hw
def g_X4_bestManner_L75 (x0 x1 : Int) (Q : Int → Hp → Prop) (K75 : Int → Int → Int → Int → Int → Hp → Prop) (l2 l3 l4 l5 l6 : Int) (h : Hp) : Prop :=
  ((4 ≤ l6) → (g_X4_bestManner_b130 x0 x1 Q l2 l3 l4 h)) ∧ ((l6 < 4) → (g_X4_beOf x0 x1 l6 (fun m85 => Ext h m85 → (g_X4_saysFirst x0 x1 (fun r95 m95 => Ext m85 m95 → (((0 : Int) ≤ l2 ∧ l2 < 108) ∧ (∀ m98 : Hp, m98 = setA m95 (x0 + 5) l2 r95 → (g_X4_waitIfHas x0 x1 (fun r101 m101 => Ext m98 m101 → (((r101 < l5) → (g_X4_bestManner_b124 x0 x1 Q K75 l2 l3 l6 r101 l6 m101)) ∧ ((l5 ≤ r101) → (g_X4_bestManner_b124 x0 x1 Q K75 l2 l3 l4 l5 l6 m101)))) m98)))) m85)) h))
theorem w_X4_bestManner_75 {G : GT} {X : ET} {h0 : Hp} {x0 x1 : Int} (HE : XE G X cX4_bestManner 8 RX4 7 167 h0) (hr : XR X (some .int)) (f0 : Lay_X4 h0 x0) {Q : Int → Hp → Prop} {K75 : Int → Int → Int → Int → Int → Hp → Prop} (hK75 : ∀ (l2 l3 l4 l5 l6 : Int) (h : Hp), K75 l2 l3 l4 l5 l6 h → Wx G X h0 (QI Q) h 75 [some (rV x0), some (iV x1), some (iV l2), some (iV l3), some (iV l4), some (iV l5), some (iV l6), none] []) {l2 l3 l4 l5 l6 : Int} {h : Hp} (hw : g_X4_bestManner_L75 x0 x1 Q K75 l2 l3 l4 l5 l6 h) : Wx G X h0 (QI Q) h 75 [some (rV x0), some (iV x1), some (iV l2), some (iV l3), some (iV l4), some (iV l5), some (iV l6), none] [] := by
  refine Wx.start (fun EB => ?_)
  unfold g_X4_bestManner_L75 at hw
  refine x_iload HE dX4_bestManner_75 rfl ?_
  refine x_iconst HE dX4_bestManner_77 (by decide) ?_
  refine x_ic_ge HE 130 dX4_bestManner_78 (by decide) (fun c78 => ?_) (fun c78 => ?_)
  · have hw := hw.1 c78
    refine Wx.mask [true, true, true, true, true, false, false, true] (lo2 := [some (rV x0), some (iV x1), some (iV l2), some (iV l3), some (iV l4), none, none, none]) rfl ?_
    exact w_X4_bestManner_130 HE hr f0 hw
  · have hw := hw.2 c78
    refine x_aload_n HE 0 dX4_bestManner_81 rfl rfl ?_
    refine x_iload_n HE 1 dX4_bestManner_82 rfl rfl ?_
    refine x_iload HE dX4_bestManner_83 rfl ?_
    refine x_callV HE dX4_bestManner_85 rfl (fun l => k_X4_beOf (f0.ext EB) l hw) (As := [iV x1, iV l6]) (rest := []) rfl xc10 (Lay_X4.tag (f0.ext EB)) (lw_V q2344 q2346 qs108 q129 q2347) hy_X4_beOf rfl rfl (Nat.le_of_ble_eq_true rfl) (Nat.le_of_ble_eq_true rfl) (Nat.le_of_ble_eq_true rfl) (kkV (fun m85 E85 hw => ?_))
    have hw := hw E85
    refine x_aload_n HE 0 dX4_bestManner_88 rfl rfl ?_
    refine x_gR HE dX4_bestManner_89 fd_X4_17 q1854 (Or.inl rfl) (Lay_X4.tag (f0.ext (EB.tr E85))) (Lay_X4_17 (f0.ext (EB.tr E85))).1 ?_
    refine x_iload_n HE 2 dX4_bestManner_92 rfl rfl ?_
    refine x_aload_n HE 0 dX4_bestManner_93 rfl rfl ?_
    refine x_iload_n HE 1 dX4_bestManner_94 rfl rfl ?_
    refine x_callV HE dX4_bestManner_95 rfl (fun l => k_X4_saysFirst (f0.ext (EB.tr E85)) l hw) (As := [iV x1]) (rest := [iV l2, rV (x0 + 5)]) rfl xc10 (Lay_X4.tag (f0.ext (EB.tr E85))) (lw_V q2128 q2130 qs83 q129 q2131) hy_X4_saysFirst rfl rfl (Nat.le_of_ble_eq_true rfl) (Nat.le_of_ble_eq_true rfl) (Nat.le_of_ble_eq_true rfl) (kkI (fun r95 m95 E95 hw => ?_))
    have hw := hw E95
    obtain ⟨i98, hw⟩ := hw
    refine x_iast HE dX4_bestManner_98 ((Lay_X4_17 (f0.ext (EB.tr (E85.tr E95)))).2.1) (ix_of ((Lay_X4_17 (f0.ext (EB.tr (E85.tr E95)))).2.2) i98) (fun m98 em98 E98 => ?_)
    have hw := hw m98 em98
    refine x_aload_n HE 0 dX4_bestManner_99 rfl rfl ?_
    refine x_iload_n HE 1 dX4_bestManner_100 rfl rfl ?_
    refine x_callV HE dX4_bestManner_101 rfl (fun l => k_X4_waitIfHas (f0.ext (EB.tr (E85.tr (E95.tr E98)))) l hw) (As := [iV x1]) (rest := []) rfl xc10 (Lay_X4.tag (f0.ext (EB.tr (E85.tr (E95.tr E98))))) (lw_V q2336 q2338 qs107 q129 q2339) hy_X4_waitIfHas rfl rfl (Nat.le_of_ble_eq_true rfl) (Nat.le_of_ble_eq_true rfl) (Nat.le_of_ble_eq_true rfl) (kkI (fun r101 m101 E101 hw => ?_))
    have hw := hw E101
    refine x_istore HE (lo' := [some (rV x0), some (iV x1), some (iV l2), some (iV l3), some (iV l4), some (iV l5), some (iV l6), some (iV r101)]) dX4_bestManner_104 (Nat.le_of_ble_eq_true rfl) rfl ?_
    refine x_iload HE dX4_bestManner_106 rfl ?_
    refine x_iload HE dX4_bestManner_108 rfl ?_
    refine x_ic_lt HE 116 dX4_bestManner_110 (by decide) (fun c110 => ?_) (fun c110 => ?_)
    · have hw := hw.1 c110
      refine x_iload HE dX4_bestManner_116 rfl ?_
      refine x_istore HE (lo' := [some (rV x0), some (iV x1), some (iV l2), some (iV l3), some (iV l6), some (iV l5), some (iV l6), some (iV r101)]) dX4_bestManner_118 (Nat.le_of_ble_eq_true rfl) rfl ?_
      refine x_iload HE dX4_bestManner_120 rfl ?_
      refine x_istore HE (lo' := [some (rV x0), some (iV x1), some (iV l2), some (iV l3), some (iV l6), some (iV r101), some (iV l6), some (iV r101)]) dX4_bestManner_122 (Nat.le_of_ble_eq_true rfl) rfl ?_
      refine Wx.mask [true, true, true, true, true, true, true, false] (lo2 := [some (rV x0), some (iV x1), some (iV l2), some (iV l3), some (iV l6), some (iV r101), some (iV l6), none]) rfl ?_
      exact w_X4_bestManner_124 HE hr f0 hK75 hw
    · have hw := hw.2 c110
      refine x_goto HE 124 dX4_bestManner_113 (by decide) ?_
      refine Wx.mask [true, true, true, true, true, true, true, false] (lo2 := [some (rV x0), some (iV x1), some (iV l2), some (iV l3), some (iV l4), some (iV l5), some (iV l6), none]) rfl ?_
      exact w_X4_bestManner_124 HE hr f0 hK75 hw
theorem wl_X4_bestManner_75 {G : GT} {X : ET} {h0 : Hp} {x0 x1 : Int} (HE : XE G X cX4_bestManner 8 RX4 7 167 h0) (hr : XR X (some .int)) (f0 : Lay_X4 h0 x0) {Q : Int → Hp → Prop} {l2 l3 l4 l5 l6 : Int} {h : Hp} (hw : Lp5 (g_X4_bestManner_L75 x0 x1 Q) l2 l3 l4 l5 l6 h) : Wx G X h0 (QI Q) h 75 [some (rV x0), some (iV x1), some (iV l2), some (iV l3), some (iV l4), some (iV l5), some (iV l6), none] [] := by
  obtain ⟨n, hw⟩ := hw
  induction n generalizing l2 l3 l4 l5 l6 h with
  | zero => exact hw.elim
  | succ n ih => exact w_X4_bestManner_75 HE hr f0 (fun _ _ _ _ _ _ hk => ih hk) hw
def g_X4_bestManner (x0 x1 : Int) (Q : Int → Hp → Prop) (h : Hp) : Prop :=
  g_X4_good x0 (fun m1 => Ext h m1 → (g_X4_isPerson x0 x1 (fun r6 m6 => Ext m1 m6 → (((r6 ≠ 0) → (g_X4_hasCome x0 x1 (fun r20 m20 => Ext m6 m20 → (((r20 = 0) → (g_X4_asTold x0 (fun m33 => Ext m20 m33 → (∀ m43 : Hp, m43 = setF m33 x0 26 (hA m33 (x0 + 3) 2) → ((i32 (8 * x1)) ∧ ((i32 (12 + (8 * x1))) ∧ ((i32 ((12 + (8 * x1)) + 3)) ∧ (∀ y55 : Int, y55 = ((12 + (8 * x1)) + 3) → (((0 : Int) ≤ y55 ∧ y55 < 108) ∧ (∀ y62 : Int, y62 = (hA m43 (x0 + 5) y55) → (Lp5 (g_X4_bestManner_L75 x0 x1 Q) y55 y62 (-2) 1000000 0 m43))))))))) m20)) ∧ ((r20 ≠ 0) → (g_X4_no x0 5 (fun r28 m28 => Ext m20 m28 → (Q r28 m28)) m20)))) m6)) ∧ ((r6 = 0) → (g_X4_no x0 1 (fun r14 m14 => Ext m6 m14 → (Q r14 m14)) m6)))) m1)) h
theorem w_X4_bestManner_0 {G : GT} {X : ET} {h0 : Hp} {x0 x1 : Int} (HE : XE G X cX4_bestManner 8 RX4 7 167 h0) (hr : XR X (some .int)) (f0 : Lay_X4 h0 x0) {Q : Int → Hp → Prop} {h : Hp} (hw : g_X4_bestManner x0 x1 Q h) : Wx G X h0 (QI Q) h 0 [some (rV x0), some (iV x1), none, none, none, none, none, none] [] := by
  refine Wx.start (fun EB => ?_)
  unfold g_X4_bestManner at hw
  refine x_aload_n HE 0 dX4_bestManner_0 rfl rfl ?_
  refine x_callV HE dX4_bestManner_1 rfl (fun l => k_X4_good (f0.ext EB) l hw) (As := []) (rest := []) rfl xc10 (Lay_X4.tag (f0.ext EB)) (lw_V q1955 q1957 qs55 q129 q1958) hy_X4_good rfl rfl (Nat.le_of_ble_eq_true rfl) (Nat.le_of_ble_eq_true rfl) (Nat.le_of_ble_eq_true rfl) (kkV (fun m1 E1 hw => ?_))
  have hw := hw E1
  refine x_aload_n HE 0 dX4_bestManner_4 rfl rfl ?_
  refine x_iload_n HE 1 dX4_bestManner_5 rfl rfl ?_
  refine x_callV HE dX4_bestManner_6 rfl (fun l => k_X4_isPerson (f0.ext (EB.tr E1)) l hw) (As := [iV x1]) (rest := []) rfl xc10 (Lay_X4.tag (f0.ext (EB.tr E1))) (lw_V q2144 q2146 qs84 q129 q2147) hy_X4_isPerson rfl rfl (Nat.le_of_ble_eq_true rfl) (Nat.le_of_ble_eq_true rfl) (Nat.le_of_ble_eq_true rfl) (kkI (fun r6 m6 E6 hw => ?_))
  have hw := hw E6
  refine x_if_ne HE 18 dX4_bestManner_9 (by decide) (fun c9 => ?_) (fun c9 => ?_)
  · have hw := hw.1 c9
    refine x_aload_n HE 0 dX4_bestManner_18 rfl rfl ?_
    refine x_iload_n HE 1 dX4_bestManner_19 rfl rfl ?_
    refine x_callV HE dX4_bestManner_20 rfl (fun l => k_X4_hasCome (f0.ext (EB.tr (E1.tr E6))) l hw) (As := [iV x1]) (rest := []) rfl xc10 (Lay_X4.tag (f0.ext (EB.tr (E1.tr E6)))) (lw_V q2328 q2330 qs106 q129 q2331) hy_X4_hasCome rfl rfl (Nat.le_of_ble_eq_true rfl) (Nat.le_of_ble_eq_true rfl) (Nat.le_of_ble_eq_true rfl) (kkI (fun r20 m20 E20 hw => ?_))
    have hw := hw E20
    refine x_if_eq HE 32 dX4_bestManner_23 (by decide) (fun c23 => ?_) (fun c23 => ?_)
    · have hw := hw.1 c23
      refine x_aload_n HE 0 dX4_bestManner_32 rfl rfl ?_
      refine x_callV HE dX4_bestManner_33 rfl (fun l => k_X4_asTold (f0.ext (EB.tr (E1.tr (E6.tr E20)))) l hw) (As := []) (rest := []) rfl xc10 (Lay_X4.tag (f0.ext (EB.tr (E1.tr (E6.tr E20))))) (lw_V q2116 q2118 qs80 q129 q2119) hy_X4_asTold rfl rfl (Nat.le_of_ble_eq_true rfl) (Nat.le_of_ble_eq_true rfl) (Nat.le_of_ble_eq_true rfl) (kkV (fun m33 E33 hw => ?_))
      have hw := hw E33
      refine x_aload_n HE 0 dX4_bestManner_36 rfl rfl ?_
      refine x_aload_n HE 0 dX4_bestManner_37 rfl rfl ?_
      refine x_gR HE dX4_bestManner_38 fd_X4_15 q1852 (Or.inl rfl) (Lay_X4.tag (f0.ext (EB.tr (E1.tr (E6.tr (E20.tr E33)))))) (Lay_X4_15 (f0.ext (EB.tr (E1.tr (E6.tr (E20.tr E33)))))).1 ?_
      refine x_iconst HE dX4_bestManner_41 (by decide) ?_
      refine x_iald HE dX4_bestManner_42 (t := 1) (by decide) ((Lay_X4_15 (f0.ext (EB.tr (E1.tr (E6.tr (E20.tr E33)))))).2.1) (ix_of ((Lay_X4_15 (f0.ext (EB.tr (E1.tr (E6.tr (E20.tr E33)))))).2.2) (by decide)) rfl ?_
      refine x_pI HE dX4_bestManner_43 fd_X4_26 q1863 (Or.inl rfl) (Or.inl rfl) (nf_int _) (Lay_X4.tag (f0.ext (EB.tr (E1.tr (E6.tr (E20.tr E33)))))) (nro (by decide)) (Or.inl nf_X4_26) (fun m43 em43 E43 => ?_)
      have hw := hw m43 em43
      refine x_bipush HE dX4_bestManner_46 (by decide) ?_
      refine x_bipush HE dX4_bestManner_48 (by decide) ?_
      refine x_iload_n HE 1 dX4_bestManner_50 rfl rfl ?_
      obtain ⟨v51, hw⟩ := hw
      refine x_imul HE dX4_bestManner_51 v51 ?_
      obtain ⟨v52, hw⟩ := hw
      refine x_iadd HE dX4_bestManner_52 v52 ?_
      refine x_iconst HE dX4_bestManner_53 (by decide) ?_
      obtain ⟨v54, hw⟩ := hw
      refine x_iadd HE dX4_bestManner_54 v54 ?_
      refine x_istore_nN HE 2 (fun y55 => [some (rV x0), some (iV x1), some (iV y55), none, none, none, none, none]) dX4_bestManner_55 rfl (Nat.le_of_ble_eq_true rfl) (fun _ => rfl) (fun y55 ey55 => ?_)
      have hw := hw y55 ey55
      refine x_aload_n HE 0 dX4_bestManner_56 rfl rfl ?_
      refine x_gR HE dX4_bestManner_57 fd_X4_17 q1854 (Or.inl rfl) (Lay_X4.tag (f0.ext (EB.tr (E1.tr (E6.tr (E20.tr (E33.tr E43))))))) (Lay_X4_17 (f0.ext (EB.tr (E1.tr (E6.tr (E20.tr (E33.tr E43))))))).1 ?_
      refine x_iload_n HE 2 dX4_bestManner_60 rfl rfl ?_
      obtain ⟨i61, hw⟩ := hw
      refine x_iald HE dX4_bestManner_61 (t := 1) (by decide) ((Lay_X4_17 (f0.ext (EB.tr (E1.tr (E6.tr (E20.tr (E33.tr E43))))))).2.1) (ix_of ((Lay_X4_17 (f0.ext (EB.tr (E1.tr (E6.tr (E20.tr (E33.tr E43))))))).2.2) i61) rfl ?_
      refine x_istore_nN HE 3 (fun y62 => [some (rV x0), some (iV x1), some (iV y55), some (iV y62), none, none, none, none]) dX4_bestManner_62 rfl (Nat.le_of_ble_eq_true rfl) (fun _ => rfl) (fun y62 ey62 => ?_)
      have hw := hw y62 ey62
      refine x_bipush HE dX4_bestManner_63 (by decide) ?_
      refine x_istore HE (lo' := [some (rV x0), some (iV x1), some (iV y55), some (iV y62), some (iV (-2)), none, none, none]) dX4_bestManner_65 (Nat.le_of_ble_eq_true rfl) rfl ?_
      refine x_ldcwI (n := 1000000) HE dX4_bestManner_67 q2156 (by unfold i32; decide) rfl ?_
      refine x_istore HE (lo' := [some (rV x0), some (iV x1), some (iV y55), some (iV y62), some (iV (-2)), some (iV 1000000), none, none]) dX4_bestManner_70 (Nat.le_of_ble_eq_true rfl) rfl ?_
      refine x_iconst HE dX4_bestManner_72 (by decide) ?_
      refine x_istore HE (lo' := [some (rV x0), some (iV x1), some (iV y55), some (iV y62), some (iV (-2)), some (iV 1000000), some (iV 0), none]) dX4_bestManner_73 (Nat.le_of_ble_eq_true rfl) rfl ?_
      exact wl_X4_bestManner_75 HE hr f0 hw
    · have hw := hw.2 c23
      refine x_aload_n HE 0 dX4_bestManner_26 rfl rfl ?_
      refine x_iconst HE dX4_bestManner_27 (by decide) ?_
      refine x_callV HE dX4_bestManner_28 rfl (fun l => k_X4_no (f0.ext (EB.tr (E1.tr (E6.tr E20)))) l hw) (As := [iV 5]) (rest := []) rfl xc10 (Lay_X4.tag (f0.ext (EB.tr (E1.tr (E6.tr E20))))) (lw_V q1962 q1964 qs56 q129 q1965) hy_X4_no rfl rfl (Nat.le_of_ble_eq_true rfl) (Nat.le_of_ble_eq_true rfl) (Nat.le_of_ble_eq_true rfl) (kkI (fun r28 m28 E28 hw => ?_))
      have hw := hw E28
      exact x_iret HE hr dX4_bestManner_31 hw
  · have hw := hw.2 c9
    refine x_aload_n HE 0 dX4_bestManner_12 rfl rfl ?_
    refine x_iconst HE dX4_bestManner_13 (by decide) ?_
    refine x_callV HE dX4_bestManner_14 rfl (fun l => k_X4_no (f0.ext (EB.tr (E1.tr E6))) l hw) (As := [iV 1]) (rest := []) rfl xc10 (Lay_X4.tag (f0.ext (EB.tr (E1.tr E6)))) (lw_V q1962 q1964 qs56 q129 q1965) hy_X4_no rfl rfl (Nat.le_of_ble_eq_true rfl) (Nat.le_of_ble_eq_true rfl) (Nat.le_of_ble_eq_true rfl) (kkI (fun r14 m14 E14 hw => ?_))
    have hw := hw E14
    exact x_iret HE hr dX4_bestManner_17 hw
theorem k_X4_bestManner {G : GT} {x0 x1 : Int} {Q : Int → Hp → Prop} {h : Hp} (f0 : Lay_X4 h x0) (l : Launch) (hw : g_X4_bestManner x0 x1 Q h) : XM G l yX4_bestManner cX4_bestManner 8 (some .int) 7 167 [rV x0, iV x1] (QI Q) h :=
  XM.of (by decide) (Nat.le_of_ble_eq_true rfl) (fun X HE hr hn => w_X4_bestManner_0 HE hr f0 hw)
def g_X4_leastLook_b121 (x0 x1 : Int) (Q : Int → Hp → Prop) (l2 l3 l4 : Int) (h : Hp) : Prop :=
  ((0 : Int) ≤ l2 ∧ l2 < 108) ∧ (∀ m127 : Hp, m127 = setA h (x0 + 5) l2 l3 → (Q l4 m127))
theorem w_X4_leastLook_121 {G : GT} {X : ET} {h0 : Hp} {x0 x1 : Int} (HE : XE G X cX4_leastLook 8 RX4 7 167 h0) (hr : XR X (some .int)) (f0 : Lay_X4 h0 x0) {Q : Int → Hp → Prop} {l2 l3 l4 : Int} {h : Hp} (hw : g_X4_leastLook_b121 x0 x1 Q l2 l3 l4 h) : Wx G X h0 (QI Q) h 121 [some (rV x0), some (iV x1), some (iV l2), some (iV l3), some (iV l4), none, none, none] [] := by
  refine Wx.start (fun EB => ?_)
  unfold g_X4_leastLook_b121 at hw
  refine x_aload_n HE 0 dX4_leastLook_121 rfl rfl ?_
  refine x_gR HE dX4_leastLook_122 fd_X4_17 q1854 (Or.inl rfl) (Lay_X4.tag (f0.ext EB)) (Lay_X4_17 (f0.ext EB)).1 ?_
  refine x_iload_n HE 2 dX4_leastLook_125 rfl rfl ?_
  refine x_iload_n HE 3 dX4_leastLook_126 rfl rfl ?_
  obtain ⟨i127, hw⟩ := hw
  refine x_iast HE dX4_leastLook_127 ((Lay_X4_17 (f0.ext EB)).2.1) (ix_of ((Lay_X4_17 (f0.ext EB)).2.2) i127) (fun m127 em127 E127 => ?_)
  have hw := hw m127 em127
  refine x_iload HE dX4_leastLook_128 rfl ?_
  exact x_iret HE hr dX4_leastLook_130 hw
def g_X4_leastLook_b115 (x0 x1 : Int) (Q : Int → Hp → Prop) (K75 : Int → Int → Int → Int → Int → Hp → Prop) (l2 l3 l4 l5 l6 : Int) (h : Hp) : Prop :=
  (i32 (l6 + 1)) ∧ (∀ y115 : Int, y115 = l6 + 1 → (K75 l2 l3 l4 l5 y115 h))
theorem w_X4_leastLook_115 {G : GT} {X : ET} {h0 : Hp} {x0 x1 : Int} (HE : XE G X cX4_leastLook 8 RX4 7 167 h0) (hr : XR X (some .int)) (f0 : Lay_X4 h0 x0) {Q : Int → Hp → Prop} {K75 : Int → Int → Int → Int → Int → Hp → Prop} (hK75 : ∀ (l2 l3 l4 l5 l6 : Int) (h : Hp), K75 l2 l3 l4 l5 l6 h → Wx G X h0 (QI Q) h 75 [some (rV x0), some (iV x1), some (iV l2), some (iV l3), some (iV l4), some (iV l5), some (iV l6), none] []) {l2 l3 l4 l5 l6 : Int} {h : Hp} (hw : g_X4_leastLook_b115 x0 x1 Q K75 l2 l3 l4 l5 l6 h) : Wx G X h0 (QI Q) h 115 [some (rV x0), some (iV x1), some (iV l2), some (iV l3), some (iV l4), some (iV l5), some (iV l6), none] [] := by
  refine Wx.start (fun EB => ?_)
  unfold g_X4_leastLook_b115 at hw
  obtain ⟨v115, hw⟩ := hw
  refine x_iincN HE (fun y115 => [some (rV x0), some (iV x1), some (iV l2), some (iV l3), some (iV l4), some (iV l5), some (iV y115), none]) dX4_leastLook_115 rfl v115 (Nat.le_of_ble_eq_true rfl) (fun _ => rfl) (fun y115 ey115 => ?_)
  have hw := hw y115 ey115
  refine x_goto HE 75 dX4_leastLook_118 (by decide) ?_
  exact hK75 _ _ _ _ _ _ hw
def g_X4_leastLook_L75 (x0 x1 : Int) (Q : Int → Hp → Prop) (K75 : Int → Int → Int → Int → Int → Hp → Prop) (l2 l3 l4 l5 l6 : Int) (h : Hp) : Prop :=
  ((100 ≤ l6) → (g_X4_leastLook_b121 x0 x1 Q l2 l3 l4 h)) ∧ ((l6 < 100) → (((0 : Int) ≤ l2 ∧ l2 < 108) ∧ (∀ m89 : Hp, m89 = setA h (x0 + 5) l2 l6 → (g_X4_waitIfHas x0 x1 (fun r92 m92 => Ext m89 m92 → (((r92 < l5) → (g_X4_leastLook_b115 x0 x1 Q K75 l2 l3 l6 r92 l6 m92)) ∧ ((l5 ≤ r92) → (g_X4_leastLook_b115 x0 x1 Q K75 l2 l3 l4 l5 l6 m92)))) m89))))
theorem w_X4_leastLook_75 {G : GT} {X : ET} {h0 : Hp} {x0 x1 : Int} (HE : XE G X cX4_leastLook 8 RX4 7 167 h0) (hr : XR X (some .int)) (f0 : Lay_X4 h0 x0) {Q : Int → Hp → Prop} {K75 : Int → Int → Int → Int → Int → Hp → Prop} (hK75 : ∀ (l2 l3 l4 l5 l6 : Int) (h : Hp), K75 l2 l3 l4 l5 l6 h → Wx G X h0 (QI Q) h 75 [some (rV x0), some (iV x1), some (iV l2), some (iV l3), some (iV l4), some (iV l5), some (iV l6), none] []) {l2 l3 l4 l5 l6 : Int} {h : Hp} (hw : g_X4_leastLook_L75 x0 x1 Q K75 l2 l3 l4 l5 l6 h) : Wx G X h0 (QI Q) h 75 [some (rV x0), some (iV x1), some (iV l2), some (iV l3), some (iV l4), some (iV l5), some (iV l6), none] [] := by
  refine Wx.start (fun EB => ?_)
  unfold g_X4_leastLook_L75 at hw
  refine x_iload HE dX4_leastLook_75 rfl ?_
  refine x_bipush HE dX4_leastLook_77 (by decide) ?_
  refine x_ic_ge HE 121 dX4_leastLook_79 (by decide) (fun c79 => ?_) (fun c79 => ?_)
  · have hw := hw.1 c79
    refine Wx.mask [true, true, true, true, true, false, false, true] (lo2 := [some (rV x0), some (iV x1), some (iV l2), some (iV l3), some (iV l4), none, none, none]) rfl ?_
    exact w_X4_leastLook_121 HE hr f0 hw
  · have hw := hw.2 c79
    refine x_aload_n HE 0 dX4_leastLook_82 rfl rfl ?_
    refine x_gR HE dX4_leastLook_83 fd_X4_17 q1854 (Or.inl rfl) (Lay_X4.tag (f0.ext EB)) (Lay_X4_17 (f0.ext EB)).1 ?_
    refine x_iload_n HE 2 dX4_leastLook_86 rfl rfl ?_
    refine x_iload HE dX4_leastLook_87 rfl ?_
    obtain ⟨i89, hw⟩ := hw
    refine x_iast HE dX4_leastLook_89 ((Lay_X4_17 (f0.ext EB)).2.1) (ix_of ((Lay_X4_17 (f0.ext EB)).2.2) i89) (fun m89 em89 E89 => ?_)
    have hw := hw m89 em89
    refine x_aload_n HE 0 dX4_leastLook_90 rfl rfl ?_
    refine x_iload_n HE 1 dX4_leastLook_91 rfl rfl ?_
    refine x_callV HE dX4_leastLook_92 rfl (fun l => k_X4_waitIfHas (f0.ext (EB.tr E89)) l hw) (As := [iV x1]) (rest := []) rfl xc10 (Lay_X4.tag (f0.ext (EB.tr E89))) (lw_V q2336 q2338 qs107 q129 q2339) hy_X4_waitIfHas rfl rfl (Nat.le_of_ble_eq_true rfl) (Nat.le_of_ble_eq_true rfl) (Nat.le_of_ble_eq_true rfl) (kkI (fun r92 m92 E92 hw => ?_))
    have hw := hw E92
    refine x_istore HE (lo' := [some (rV x0), some (iV x1), some (iV l2), some (iV l3), some (iV l4), some (iV l5), some (iV l6), some (iV r92)]) dX4_leastLook_95 (Nat.le_of_ble_eq_true rfl) rfl ?_
    refine x_iload HE dX4_leastLook_97 rfl ?_
    refine x_iload HE dX4_leastLook_99 rfl ?_
    refine x_ic_lt HE 107 dX4_leastLook_101 (by decide) (fun c101 => ?_) (fun c101 => ?_)
    · have hw := hw.1 c101
      refine x_iload HE dX4_leastLook_107 rfl ?_
      refine x_istore HE (lo' := [some (rV x0), some (iV x1), some (iV l2), some (iV l3), some (iV l6), some (iV l5), some (iV l6), some (iV r92)]) dX4_leastLook_109 (Nat.le_of_ble_eq_true rfl) rfl ?_
      refine x_iload HE dX4_leastLook_111 rfl ?_
      refine x_istore HE (lo' := [some (rV x0), some (iV x1), some (iV l2), some (iV l3), some (iV l6), some (iV r92), some (iV l6), some (iV r92)]) dX4_leastLook_113 (Nat.le_of_ble_eq_true rfl) rfl ?_
      refine Wx.mask [true, true, true, true, true, true, true, false] (lo2 := [some (rV x0), some (iV x1), some (iV l2), some (iV l3), some (iV l6), some (iV r92), some (iV l6), none]) rfl ?_
      exact w_X4_leastLook_115 HE hr f0 hK75 hw
    · have hw := hw.2 c101
      refine x_goto HE 115 dX4_leastLook_104 (by decide) ?_
      refine Wx.mask [true, true, true, true, true, true, true, false] (lo2 := [some (rV x0), some (iV x1), some (iV l2), some (iV l3), some (iV l4), some (iV l5), some (iV l6), none]) rfl ?_
      exact w_X4_leastLook_115 HE hr f0 hK75 hw
theorem wl_X4_leastLook_75 {G : GT} {X : ET} {h0 : Hp} {x0 x1 : Int} (HE : XE G X cX4_leastLook 8 RX4 7 167 h0) (hr : XR X (some .int)) (f0 : Lay_X4 h0 x0) {Q : Int → Hp → Prop} {l2 l3 l4 l5 l6 : Int} {h : Hp} (hw : Lp5 (g_X4_leastLook_L75 x0 x1 Q) l2 l3 l4 l5 l6 h) : Wx G X h0 (QI Q) h 75 [some (rV x0), some (iV x1), some (iV l2), some (iV l3), some (iV l4), some (iV l5), some (iV l6), none] [] := by
  obtain ⟨n, hw⟩ := hw
  induction n generalizing l2 l3 l4 l5 l6 h with
  | zero => exact hw.elim
  | succ n ih => exact w_X4_leastLook_75 HE hr f0 (fun _ _ _ _ _ _ hk => ih hk) hw
def g_X4_leastLook (x0 x1 : Int) (Q : Int → Hp → Prop) (h : Hp) : Prop :=
  g_X4_good x0 (fun m1 => Ext h m1 → (g_X4_isPerson x0 x1 (fun r6 m6 => Ext m1 m6 → (((r6 ≠ 0) → (g_X4_hasCome x0 x1 (fun r20 m20 => Ext m6 m20 → (((r20 = 0) → (g_X4_asTold x0 (fun m33 => Ext m20 m33 → (∀ m43 : Hp, m43 = setF m33 x0 26 (hA m33 (x0 + 3) 2) → ((i32 (8 * x1)) ∧ ((i32 (12 + (8 * x1))) ∧ ((i32 ((12 + (8 * x1)) + 2)) ∧ (∀ y55 : Int, y55 = ((12 + (8 * x1)) + 2) → (((0 : Int) ≤ y55 ∧ y55 < 108) ∧ (∀ y62 : Int, y62 = (hA m43 (x0 + 5) y55) → (Lp5 (g_X4_leastLook_L75 x0 x1 Q) y55 y62 (-2) 1000000 0 m43))))))))) m20)) ∧ ((r20 ≠ 0) → (g_X4_no x0 5 (fun r28 m28 => Ext m20 m28 → (Q r28 m28)) m20)))) m6)) ∧ ((r6 = 0) → (g_X4_no x0 1 (fun r14 m14 => Ext m6 m14 → (Q r14 m14)) m6)))) m1)) h
theorem w_X4_leastLook_0 {G : GT} {X : ET} {h0 : Hp} {x0 x1 : Int} (HE : XE G X cX4_leastLook 8 RX4 7 167 h0) (hr : XR X (some .int)) (f0 : Lay_X4 h0 x0) {Q : Int → Hp → Prop} {h : Hp} (hw : g_X4_leastLook x0 x1 Q h) : Wx G X h0 (QI Q) h 0 [some (rV x0), some (iV x1), none, none, none, none, none, none] [] := by
  refine Wx.start (fun EB => ?_)
  unfold g_X4_leastLook at hw
  refine x_aload_n HE 0 dX4_leastLook_0 rfl rfl ?_
  refine x_callV HE dX4_leastLook_1 rfl (fun l => k_X4_good (f0.ext EB) l hw) (As := []) (rest := []) rfl xc10 (Lay_X4.tag (f0.ext EB)) (lw_V q1955 q1957 qs55 q129 q1958) hy_X4_good rfl rfl (Nat.le_of_ble_eq_true rfl) (Nat.le_of_ble_eq_true rfl) (Nat.le_of_ble_eq_true rfl) (kkV (fun m1 E1 hw => ?_))
  have hw := hw E1
  refine x_aload_n HE 0 dX4_leastLook_4 rfl rfl ?_
  refine x_iload_n HE 1 dX4_leastLook_5 rfl rfl ?_
  refine x_callV HE dX4_leastLook_6 rfl (fun l => k_X4_isPerson (f0.ext (EB.tr E1)) l hw) (As := [iV x1]) (rest := []) rfl xc10 (Lay_X4.tag (f0.ext (EB.tr E1))) (lw_V q2144 q2146 qs84 q129 q2147) hy_X4_isPerson rfl rfl (Nat.le_of_ble_eq_true rfl) (Nat.le_of_ble_eq_true rfl) (Nat.le_of_ble_eq_true rfl) (kkI (fun r6 m6 E6 hw => ?_))
  have hw := hw E6
  refine x_if_ne HE 18 dX4_leastLook_9 (by decide) (fun c9 => ?_) (fun c9 => ?_)
  · have hw := hw.1 c9
    refine x_aload_n HE 0 dX4_leastLook_18 rfl rfl ?_
    refine x_iload_n HE 1 dX4_leastLook_19 rfl rfl ?_
    refine x_callV HE dX4_leastLook_20 rfl (fun l => k_X4_hasCome (f0.ext (EB.tr (E1.tr E6))) l hw) (As := [iV x1]) (rest := []) rfl xc10 (Lay_X4.tag (f0.ext (EB.tr (E1.tr E6)))) (lw_V q2328 q2330 qs106 q129 q2331) hy_X4_hasCome rfl rfl (Nat.le_of_ble_eq_true rfl) (Nat.le_of_ble_eq_true rfl) (Nat.le_of_ble_eq_true rfl) (kkI (fun r20 m20 E20 hw => ?_))
    have hw := hw E20
    refine x_if_eq HE 32 dX4_leastLook_23 (by decide) (fun c23 => ?_) (fun c23 => ?_)
    · have hw := hw.1 c23
      refine x_aload_n HE 0 dX4_leastLook_32 rfl rfl ?_
      refine x_callV HE dX4_leastLook_33 rfl (fun l => k_X4_asTold (f0.ext (EB.tr (E1.tr (E6.tr E20)))) l hw) (As := []) (rest := []) rfl xc10 (Lay_X4.tag (f0.ext (EB.tr (E1.tr (E6.tr E20))))) (lw_V q2116 q2118 qs80 q129 q2119) hy_X4_asTold rfl rfl (Nat.le_of_ble_eq_true rfl) (Nat.le_of_ble_eq_true rfl) (Nat.le_of_ble_eq_true rfl) (kkV (fun m33 E33 hw => ?_))
      have hw := hw E33
      refine x_aload_n HE 0 dX4_leastLook_36 rfl rfl ?_
      refine x_aload_n HE 0 dX4_leastLook_37 rfl rfl ?_
      refine x_gR HE dX4_leastLook_38 fd_X4_15 q1852 (Or.inl rfl) (Lay_X4.tag (f0.ext (EB.tr (E1.tr (E6.tr (E20.tr E33)))))) (Lay_X4_15 (f0.ext (EB.tr (E1.tr (E6.tr (E20.tr E33)))))).1 ?_
      refine x_iconst HE dX4_leastLook_41 (by decide) ?_
      refine x_iald HE dX4_leastLook_42 (t := 1) (by decide) ((Lay_X4_15 (f0.ext (EB.tr (E1.tr (E6.tr (E20.tr E33)))))).2.1) (ix_of ((Lay_X4_15 (f0.ext (EB.tr (E1.tr (E6.tr (E20.tr E33)))))).2.2) (by decide)) rfl ?_
      refine x_pI HE dX4_leastLook_43 fd_X4_26 q1863 (Or.inl rfl) (Or.inl rfl) (nf_int _) (Lay_X4.tag (f0.ext (EB.tr (E1.tr (E6.tr (E20.tr E33)))))) (nro (by decide)) (Or.inl nf_X4_26) (fun m43 em43 E43 => ?_)
      have hw := hw m43 em43
      refine x_bipush HE dX4_leastLook_46 (by decide) ?_
      refine x_bipush HE dX4_leastLook_48 (by decide) ?_
      refine x_iload_n HE 1 dX4_leastLook_50 rfl rfl ?_
      obtain ⟨v51, hw⟩ := hw
      refine x_imul HE dX4_leastLook_51 v51 ?_
      obtain ⟨v52, hw⟩ := hw
      refine x_iadd HE dX4_leastLook_52 v52 ?_
      refine x_iconst HE dX4_leastLook_53 (by decide) ?_
      obtain ⟨v54, hw⟩ := hw
      refine x_iadd HE dX4_leastLook_54 v54 ?_
      refine x_istore_nN HE 2 (fun y55 => [some (rV x0), some (iV x1), some (iV y55), none, none, none, none, none]) dX4_leastLook_55 rfl (Nat.le_of_ble_eq_true rfl) (fun _ => rfl) (fun y55 ey55 => ?_)
      have hw := hw y55 ey55
      refine x_aload_n HE 0 dX4_leastLook_56 rfl rfl ?_
      refine x_gR HE dX4_leastLook_57 fd_X4_17 q1854 (Or.inl rfl) (Lay_X4.tag (f0.ext (EB.tr (E1.tr (E6.tr (E20.tr (E33.tr E43))))))) (Lay_X4_17 (f0.ext (EB.tr (E1.tr (E6.tr (E20.tr (E33.tr E43))))))).1 ?_
      refine x_iload_n HE 2 dX4_leastLook_60 rfl rfl ?_
      obtain ⟨i61, hw⟩ := hw
      refine x_iald HE dX4_leastLook_61 (t := 1) (by decide) ((Lay_X4_17 (f0.ext (EB.tr (E1.tr (E6.tr (E20.tr (E33.tr E43))))))).2.1) (ix_of ((Lay_X4_17 (f0.ext (EB.tr (E1.tr (E6.tr (E20.tr (E33.tr E43))))))).2.2) i61) rfl ?_
      refine x_istore_nN HE 3 (fun y62 => [some (rV x0), some (iV x1), some (iV y55), some (iV y62), none, none, none, none]) dX4_leastLook_62 rfl (Nat.le_of_ble_eq_true rfl) (fun _ => rfl) (fun y62 ey62 => ?_)
      have hw := hw y62 ey62
      refine x_bipush HE dX4_leastLook_63 (by decide) ?_
      refine x_istore HE (lo' := [some (rV x0), some (iV x1), some (iV y55), some (iV y62), some (iV (-2)), none, none, none]) dX4_leastLook_65 (Nat.le_of_ble_eq_true rfl) rfl ?_
      refine x_ldcwI (n := 1000000) HE dX4_leastLook_67 q2156 (by unfold i32; decide) rfl ?_
      refine x_istore HE (lo' := [some (rV x0), some (iV x1), some (iV y55), some (iV y62), some (iV (-2)), some (iV 1000000), none, none]) dX4_leastLook_70 (Nat.le_of_ble_eq_true rfl) rfl ?_
      refine x_iconst HE dX4_leastLook_72 (by decide) ?_
      refine x_istore HE (lo' := [some (rV x0), some (iV x1), some (iV y55), some (iV y62), some (iV (-2)), some (iV 1000000), some (iV 0), none]) dX4_leastLook_73 (Nat.le_of_ble_eq_true rfl) rfl ?_
      exact wl_X4_leastLook_75 HE hr f0 hw
    · have hw := hw.2 c23
      refine x_aload_n HE 0 dX4_leastLook_26 rfl rfl ?_
      refine x_iconst HE dX4_leastLook_27 (by decide) ?_
      refine x_callV HE dX4_leastLook_28 rfl (fun l => k_X4_no (f0.ext (EB.tr (E1.tr (E6.tr E20)))) l hw) (As := [iV 5]) (rest := []) rfl xc10 (Lay_X4.tag (f0.ext (EB.tr (E1.tr (E6.tr E20))))) (lw_V q1962 q1964 qs56 q129 q1965) hy_X4_no rfl rfl (Nat.le_of_ble_eq_true rfl) (Nat.le_of_ble_eq_true rfl) (Nat.le_of_ble_eq_true rfl) (kkI (fun r28 m28 E28 hw => ?_))
      have hw := hw E28
      exact x_iret HE hr dX4_leastLook_31 hw
  · have hw := hw.2 c9
    refine x_aload_n HE 0 dX4_leastLook_12 rfl rfl ?_
    refine x_iconst HE dX4_leastLook_13 (by decide) ?_
    refine x_callV HE dX4_leastLook_14 rfl (fun l => k_X4_no (f0.ext (EB.tr (E1.tr E6))) l hw) (As := [iV 1]) (rest := []) rfl xc10 (Lay_X4.tag (f0.ext (EB.tr (E1.tr E6)))) (lw_V q1962 q1964 qs56 q129 q1965) hy_X4_no rfl rfl (Nat.le_of_ble_eq_true rfl) (Nat.le_of_ble_eq_true rfl) (Nat.le_of_ble_eq_true rfl) (kkI (fun r14 m14 E14 hw => ?_))
    have hw := hw E14
    exact x_iret HE hr dX4_leastLook_17 hw
theorem k_X4_leastLook {G : GT} {x0 x1 : Int} {Q : Int → Hp → Prop} {h : Hp} (f0 : Lay_X4 h x0) (l : Launch) (hw : g_X4_leastLook x0 x1 Q h) : XM G l yX4_leastLook cX4_leastLook 8 (some .int) 7 167 [rV x0, iV x1] (QI Q) h :=
  XM.of (by decide) (Nat.le_of_ble_eq_true rfl) (fun X HE hr hn => w_X4_leastLook_0 HE hr f0 hw)
def g_X4_cutWhy_b142 (x0 : Int) (Q : Int → Hp → Prop) (h : Hp) : Prop :=
  Q 0 h
theorem w_X4_cutWhy_142 {G : GT} {X : ET} {h0 : Hp} {x0 : Int} (HE : XE G X cX4_cutWhy 3 RX4 6 146 h0) (hr : XR X (some .int)) (f0 : Lay_X4 h0 x0) {Q : Int → Hp → Prop} {h : Hp} (hw : g_X4_cutWhy_b142 x0 Q  h) : Wx G X h0 (QI Q) h 142 [some (rV x0), none, none] [] := by
  refine Wx.start (fun EB => ?_)
  unfold g_X4_cutWhy_b142 at hw
  refine x_iconst HE dX4_cutWhy_142 (by decide) ?_
  exact x_iret HE hr dX4_cutWhy_143 hw
def g_X4_cutWhy_b136 (x0 : Int) (Q : Int → Hp → Prop) (K40 : Int → Hp → Prop) (l1 : Int) (h : Hp) : Prop :=
  (i32 (l1 + 1)) ∧ (∀ y136 : Int, y136 = l1 + 1 → (K40 y136 h))
theorem w_X4_cutWhy_136 {G : GT} {X : ET} {h0 : Hp} {x0 : Int} (HE : XE G X cX4_cutWhy 3 RX4 6 146 h0) (hr : XR X (some .int)) (f0 : Lay_X4 h0 x0) {Q : Int → Hp → Prop} {K40 : Int → Hp → Prop} (hK40 : ∀ (l1 : Int) (h : Hp), K40 l1 h → Wx G X h0 (QI Q) h 40 [some (rV x0), some (iV l1), none] []) {l1 : Int} {h : Hp} (hw : g_X4_cutWhy_b136 x0 Q K40 l1 h) : Wx G X h0 (QI Q) h 136 [some (rV x0), some (iV l1), none] [] := by
  refine Wx.start (fun EB => ?_)
  unfold g_X4_cutWhy_b136 at hw
  obtain ⟨v136, hw⟩ := hw
  refine x_iincN HE (fun y136 => [some (rV x0), some (iV y136), none]) dX4_cutWhy_136 rfl v136 (Nat.le_of_ble_eq_true rfl) (fun _ => rfl) (fun y136 ey136 => ?_)
  have hw := hw y136 ey136
  refine x_goto HE 40 dX4_cutWhy_139 (by decide) ?_
  exact hK40 _ _ hw
def g_X4_cutWhy_L40 (x0 : Int) (Q : Int → Hp → Prop) (K40 : Int → Hp → Prop) (l1 : Int) (h : Hp) : Prop :=
  (i32 ((hA h (x0 + 3) 1) - 1)) ∧ (((((hA h (x0 + 3) 1) - 1) ≤ l1) → (g_X4_cutWhy_b142 x0 Q h)) ∧ ((l1 < ((hA h (x0 + 3) 1) - 1)) → (g_X4_asTold x0 (fun m53 => Ext h m53 → (∀ m63 : Hp, m63 = setF m53 x0 26 (hA m53 (x0 + 3) 2) → (∀ m72 : Hp, m72 = setA m63 (x0 + 9) 2 0 → (∀ m79 : Hp, m79 = setA m72 (x0 + 9) 3 l1 → ((i32 (l1 + 1)) ∧ (∀ m89 : Hp, m89 = setA m79 (x0 + 9) 8 (l1 + 1) → ((i32 ((hA m89 (x0 + 3) 1) - 1)) ∧ (∀ m104 : Hp, m104 = setA m89 (x0 + 9) 9 ((hA m89 (x0 + 3) 1) - 1) → (g_X4_evening x0 (fun m106 => Ext m104 m106 → (g_X4_sumOf x0 3 (fun r111 m111 => Ext m106 m111 → (((r111 < (hF m111 x0 28)) → (∀ m128 : Hp, m128 = setF m111 x0 28 r111 → (∀ m133 : Hp, m133 = setF m128 x0 27 l1 → (g_X4_cutWhy_b136 x0 Q K40 l1 m133)))) ∧ (((hF m111 x0 28) ≤ r111) → (g_X4_cutWhy_b136 x0 Q K40 l1 m111)))) m106)) m104))))))))) h)))
theorem w_X4_cutWhy_40 {G : GT} {X : ET} {h0 : Hp} {x0 : Int} (HE : XE G X cX4_cutWhy 3 RX4 6 146 h0) (hr : XR X (some .int)) (f0 : Lay_X4 h0 x0) {Q : Int → Hp → Prop} {K40 : Int → Hp → Prop} (hK40 : ∀ (l1 : Int) (h : Hp), K40 l1 h → Wx G X h0 (QI Q) h 40 [some (rV x0), some (iV l1), none] []) {l1 : Int} {h : Hp} (hw : g_X4_cutWhy_L40 x0 Q K40 l1 h) : Wx G X h0 (QI Q) h 40 [some (rV x0), some (iV l1), none] [] := by
  refine Wx.start (fun EB => ?_)
  unfold g_X4_cutWhy_L40 at hw
  refine x_iload_n HE 1 dX4_cutWhy_40 rfl rfl ?_
  refine x_aload_n HE 0 dX4_cutWhy_41 rfl rfl ?_
  refine x_gR HE dX4_cutWhy_42 fd_X4_15 q1852 (Or.inl rfl) (Lay_X4.tag (f0.ext EB)) (Lay_X4_15 (f0.ext EB)).1 ?_
  refine x_iconst HE dX4_cutWhy_45 (by decide) ?_
  refine x_iald HE dX4_cutWhy_46 (t := 1) (by decide) ((Lay_X4_15 (f0.ext EB)).2.1) (ix_of ((Lay_X4_15 (f0.ext EB)).2.2) (by decide)) rfl ?_
  refine x_iconst HE dX4_cutWhy_47 (by decide) ?_
  obtain ⟨v48, hw⟩ := hw
  refine x_isub HE dX4_cutWhy_48 v48 ?_
  refine x_ic_ge HE 142 dX4_cutWhy_49 (by decide) (fun c49 => ?_) (fun c49 => ?_)
  · have hw := hw.1 c49
    refine Wx.mask [true, false, true] (lo2 := [some (rV x0), none, none]) rfl ?_
    exact w_X4_cutWhy_142 HE hr f0 hw
  · have hw := hw.2 c49
    refine x_aload_n HE 0 dX4_cutWhy_52 rfl rfl ?_
    refine x_callV HE dX4_cutWhy_53 rfl (fun l => k_X4_asTold (f0.ext EB) l hw) (As := []) (rest := []) rfl xc10 (Lay_X4.tag (f0.ext EB)) (lw_V q2116 q2118 qs80 q129 q2119) hy_X4_asTold rfl rfl (Nat.le_of_ble_eq_true rfl) (Nat.le_of_ble_eq_true rfl) (Nat.le_of_ble_eq_true rfl) (kkV (fun m53 E53 hw => ?_))
    have hw := hw E53
    refine x_aload_n HE 0 dX4_cutWhy_56 rfl rfl ?_
    refine x_aload_n HE 0 dX4_cutWhy_57 rfl rfl ?_
    refine x_gR HE dX4_cutWhy_58 fd_X4_15 q1852 (Or.inl rfl) (Lay_X4.tag (f0.ext (EB.tr E53))) (Lay_X4_15 (f0.ext (EB.tr E53))).1 ?_
    refine x_iconst HE dX4_cutWhy_61 (by decide) ?_
    refine x_iald HE dX4_cutWhy_62 (t := 1) (by decide) ((Lay_X4_15 (f0.ext (EB.tr E53))).2.1) (ix_of ((Lay_X4_15 (f0.ext (EB.tr E53))).2.2) (by decide)) rfl ?_
    refine x_pI HE dX4_cutWhy_63 fd_X4_26 q1863 (Or.inl rfl) (Or.inl rfl) (nf_int _) (Lay_X4.tag (f0.ext (EB.tr E53))) (nro (by decide)) (Or.inl nf_X4_26) (fun m63 em63 E63 => ?_)
    have hw := hw m63 em63
    refine x_aload_n HE 0 dX4_cutWhy_66 rfl rfl ?_
    refine x_gR HE dX4_cutWhy_67 fd_X4_23 q1860 (Or.inl rfl) (Lay_X4.tag (f0.ext (EB.tr (E53.tr E63)))) (Lay_X4_23 (f0.ext (EB.tr (E53.tr E63)))).1 ?_
    refine x_iconst HE dX4_cutWhy_70 (by decide) ?_
    refine x_iconst HE dX4_cutWhy_71 (by decide) ?_
    refine x_iast HE dX4_cutWhy_72 ((Lay_X4_23 (f0.ext (EB.tr (E53.tr E63)))).2.1) (ix_of ((Lay_X4_23 (f0.ext (EB.tr (E53.tr E63)))).2.2) (by decide)) (fun m72 em72 E72 => ?_)
    have hw := hw m72 em72
    refine x_aload_n HE 0 dX4_cutWhy_73 rfl rfl ?_
    refine x_gR HE dX4_cutWhy_74 fd_X4_23 q1860 (Or.inl rfl) (Lay_X4.tag (f0.ext (EB.tr (E53.tr (E63.tr E72))))) (Lay_X4_23 (f0.ext (EB.tr (E53.tr (E63.tr E72))))).1 ?_
    refine x_iconst HE dX4_cutWhy_77 (by decide) ?_
    refine x_iload_n HE 1 dX4_cutWhy_78 rfl rfl ?_
    refine x_iast HE dX4_cutWhy_79 ((Lay_X4_23 (f0.ext (EB.tr (E53.tr (E63.tr E72))))).2.1) (ix_of ((Lay_X4_23 (f0.ext (EB.tr (E53.tr (E63.tr E72))))).2.2) (by decide)) (fun m79 em79 E79 => ?_)
    have hw := hw m79 em79
    refine x_aload_n HE 0 dX4_cutWhy_80 rfl rfl ?_
    refine x_gR HE dX4_cutWhy_81 fd_X4_23 q1860 (Or.inl rfl) (Lay_X4.tag (f0.ext (EB.tr (E53.tr (E63.tr (E72.tr E79)))))) (Lay_X4_23 (f0.ext (EB.tr (E53.tr (E63.tr (E72.tr E79)))))).1 ?_
    refine x_bipush HE dX4_cutWhy_84 (by decide) ?_
    refine x_iload_n HE 1 dX4_cutWhy_86 rfl rfl ?_
    refine x_iconst HE dX4_cutWhy_87 (by decide) ?_
    obtain ⟨v88, hw⟩ := hw
    refine x_iadd HE dX4_cutWhy_88 v88 ?_
    refine x_iast HE dX4_cutWhy_89 ((Lay_X4_23 (f0.ext (EB.tr (E53.tr (E63.tr (E72.tr E79)))))).2.1) (ix_of ((Lay_X4_23 (f0.ext (EB.tr (E53.tr (E63.tr (E72.tr E79)))))).2.2) (by decide)) (fun m89 em89 E89 => ?_)
    have hw := hw m89 em89
    refine x_aload_n HE 0 dX4_cutWhy_90 rfl rfl ?_
    refine x_gR HE dX4_cutWhy_91 fd_X4_23 q1860 (Or.inl rfl) (Lay_X4.tag (f0.ext (EB.tr (E53.tr (E63.tr (E72.tr (E79.tr E89))))))) (Lay_X4_23 (f0.ext (EB.tr (E53.tr (E63.tr (E72.tr (E79.tr E89))))))).1 ?_
    refine x_bipush HE dX4_cutWhy_94 (by decide) ?_
    refine x_aload_n HE 0 dX4_cutWhy_96 rfl rfl ?_
    refine x_gR HE dX4_cutWhy_97 fd_X4_15 q1852 (Or.inl rfl) (Lay_X4.tag (f0.ext (EB.tr (E53.tr (E63.tr (E72.tr (E79.tr E89))))))) (Lay_X4_15 (f0.ext (EB.tr (E53.tr (E63.tr (E72.tr (E79.tr E89))))))).1 ?_
    refine x_iconst HE dX4_cutWhy_100 (by decide) ?_
    refine x_iald HE dX4_cutWhy_101 (t := 1) (by decide) ((Lay_X4_15 (f0.ext (EB.tr (E53.tr (E63.tr (E72.tr (E79.tr E89))))))).2.1) (ix_of ((Lay_X4_15 (f0.ext (EB.tr (E53.tr (E63.tr (E72.tr (E79.tr E89))))))).2.2) (by decide)) rfl ?_
    refine x_iconst HE dX4_cutWhy_102 (by decide) ?_
    obtain ⟨v103, hw⟩ := hw
    refine x_isub HE dX4_cutWhy_103 v103 ?_
    refine x_iast HE dX4_cutWhy_104 ((Lay_X4_23 (f0.ext (EB.tr (E53.tr (E63.tr (E72.tr (E79.tr E89))))))).2.1) (ix_of ((Lay_X4_23 (f0.ext (EB.tr (E53.tr (E63.tr (E72.tr (E79.tr E89))))))).2.2) (by decide)) (fun m104 em104 E104 => ?_)
    have hw := hw m104 em104
    refine x_aload_n HE 0 dX4_cutWhy_105 rfl rfl ?_
    refine x_callV HE dX4_cutWhy_106 rfl (fun l => k_X4_evening (f0.ext (EB.tr (E53.tr (E63.tr (E72.tr (E79.tr (E89.tr E104))))))) l hw) (As := []) (rest := []) rfl xc10 (Lay_X4.tag (f0.ext (EB.tr (E53.tr (E63.tr (E72.tr (E79.tr (E89.tr E104)))))))) (lw_V q2226 q2228 qs95 q129 q2229) hy_X4_evening rfl rfl (Nat.le_of_ble_eq_true rfl) (Nat.le_of_ble_eq_true rfl) (Nat.le_of_ble_eq_true rfl) (kkV (fun m106 E106 hw => ?_))
    have hw := hw E106
    refine x_aload_n HE 0 dX4_cutWhy_109 rfl rfl ?_
    refine x_iconst HE dX4_cutWhy_110 (by decide) ?_
    refine x_callV HE dX4_cutWhy_111 rfl (fun l => k_X4_sumOf (f0.ext (EB.tr (E53.tr (E63.tr (E72.tr (E79.tr (E89.tr (E104.tr E106)))))))) l hw) (As := [iV 3]) (rest := []) rfl xc10 (Lay_X4.tag (f0.ext (EB.tr (E53.tr (E63.tr (E72.tr (E79.tr (E89.tr (E104.tr E106))))))))) (lw_V q2285 q2287 qs103 q129 q2288) hy_X4_sumOf rfl rfl (Nat.le_of_ble_eq_true rfl) (Nat.le_of_ble_eq_true rfl) (Nat.le_of_ble_eq_true rfl) (kkI (fun r111 m111 E111 hw => ?_))
    have hw := hw E111
    refine x_istore_n HE 2 (lo' := [some (rV x0), some (iV l1), some (iV r111)]) dX4_cutWhy_114 rfl (Nat.le_of_ble_eq_true rfl) rfl ?_
    refine x_iload_n HE 2 dX4_cutWhy_115 rfl rfl ?_
    refine x_aload_n HE 0 dX4_cutWhy_116 rfl rfl ?_
    refine x_gI HE dX4_cutWhy_117 fd_X4_28 q1865 (Or.inl rfl) (Lay_X4.tag (f0.ext (EB.tr (E53.tr (E63.tr (E72.tr (E79.tr (E89.tr (E104.tr (E106.tr E111)))))))))) rfl ?_
    refine x_ic_lt HE 126 dX4_cutWhy_120 (by decide) (fun c120 => ?_) (fun c120 => ?_)
    · have hw := hw.1 c120
      refine x_aload_n HE 0 dX4_cutWhy_126 rfl rfl ?_
      refine x_iload_n HE 2 dX4_cutWhy_127 rfl rfl ?_
      refine x_pI HE dX4_cutWhy_128 fd_X4_28 q1865 (Or.inl rfl) (Or.inl rfl) (nf_int _) (Lay_X4.tag (f0.ext (EB.tr (E53.tr (E63.tr (E72.tr (E79.tr (E89.tr (E104.tr (E106.tr E111)))))))))) (nro (by decide)) (Or.inl nf_X4_28) (fun m128 em128 E128 => ?_)
      have hw := hw m128 em128
      refine x_aload_n HE 0 dX4_cutWhy_131 rfl rfl ?_
      refine x_iload_n HE 1 dX4_cutWhy_132 rfl rfl ?_
      refine x_pI HE dX4_cutWhy_133 fd_X4_27 q1864 (Or.inl rfl) (Or.inl rfl) (nf_int _) (Lay_X4.tag (f0.ext (EB.tr (E53.tr (E63.tr (E72.tr (E79.tr (E89.tr (E104.tr (E106.tr (E111.tr E128))))))))))) (nro (by decide)) (Or.inl nf_X4_27) (fun m133 em133 E133 => ?_)
      have hw := hw m133 em133
      refine Wx.mask [true, true, false] (lo2 := [some (rV x0), some (iV l1), none]) rfl ?_
      exact w_X4_cutWhy_136 HE hr f0 hK40 hw
    · have hw := hw.2 c120
      refine x_goto HE 136 dX4_cutWhy_123 (by decide) ?_
      refine Wx.mask [true, true, false] (lo2 := [some (rV x0), some (iV l1), none]) rfl ?_
      exact w_X4_cutWhy_136 HE hr f0 hK40 hw
theorem wl_X4_cutWhy_40 {G : GT} {X : ET} {h0 : Hp} {x0 : Int} (HE : XE G X cX4_cutWhy 3 RX4 6 146 h0) (hr : XR X (some .int)) (f0 : Lay_X4 h0 x0) {Q : Int → Hp → Prop} {l1 : Int} {h : Hp} (hw : Lp1 (g_X4_cutWhy_L40 x0 Q) l1 h) : Wx G X h0 (QI Q) h 40 [some (rV x0), some (iV l1), none] [] := by
  obtain ⟨n, hw⟩ := hw
  induction n generalizing l1 h with
  | zero => exact hw.elim
  | succ n ih => exact w_X4_cutWhy_40 HE hr f0 (fun _ _ hk => ih hk) hw
def g_X4_cutWhy_b29 (x0 : Int) (Q : Int → Hp → Prop) (h : Hp) : Prop :=
  Q 5 h
theorem w_X4_cutWhy_29 {G : GT} {X : ET} {h0 : Hp} {x0 : Int} (HE : XE G X cX4_cutWhy 3 RX4 6 146 h0) (hr : XR X (some .int)) (f0 : Lay_X4 h0 x0) {Q : Int → Hp → Prop} {h : Hp} (hw : g_X4_cutWhy_b29 x0 Q  h) : Wx G X h0 (QI Q) h 29 [some (rV x0), none, none] [] := by
  refine Wx.start (fun EB => ?_)
  unfold g_X4_cutWhy_b29 at hw
  refine x_iconst HE dX4_cutWhy_29 (by decide) ?_
  exact x_iret HE hr dX4_cutWhy_30 hw
def g_X4_cutWhy (x0 : Int) (Q : Int → Hp → Prop) (h : Hp) : Prop :=
  (((hF h x0 14) ≠ 0) → ((((hA h (x0 + 3) 4) < 2) → (g_X4_cutWhy_b29 x0 Q h)) ∧ ((2 ≤ (hA h (x0 + 3) 4)) → (((2 ≤ (hA h (x0 + 3) 1)) → (∀ m35 : Hp, m35 = setF h x0 28 1000000 → (Lp1 (g_X4_cutWhy_L40 x0 Q) 0 m35))) ∧ (((hA h (x0 + 3) 1) < 2) → (g_X4_cutWhy_b29 x0 Q h)))))) ∧ (((hF h x0 14) = 0) → (Q 1 h))
theorem w_X4_cutWhy_0 {G : GT} {X : ET} {h0 : Hp} {x0 : Int} (HE : XE G X cX4_cutWhy 3 RX4 6 146 h0) (hr : XR X (some .int)) (f0 : Lay_X4 h0 x0) {Q : Int → Hp → Prop} {h : Hp} (hw : g_X4_cutWhy x0 Q h) : Wx G X h0 (QI Q) h 0 [some (rV x0), none, none] [] := by
  refine Wx.start (fun EB => ?_)
  unfold g_X4_cutWhy at hw
  refine x_aload_n HE 0 dX4_cutWhy_0 rfl rfl ?_
  refine x_gI HE dX4_cutWhy_1 fd_X4_14 q1851 (Or.inl rfl) (Lay_X4.tag (f0.ext EB)) rfl ?_
  refine x_if_ne HE 9 dX4_cutWhy_4 (by decide) (fun c4 => ?_) (fun c4 => ?_)
  · have hw := hw.1 c4
    refine x_aload_n HE 0 dX4_cutWhy_9 rfl rfl ?_
    refine x_gR HE dX4_cutWhy_10 fd_X4_15 q1852 (Or.inl rfl) (Lay_X4.tag (f0.ext EB)) (Lay_X4_15 (f0.ext EB)).1 ?_
    refine x_iconst HE dX4_cutWhy_13 (by decide) ?_
    refine x_iald HE dX4_cutWhy_14 (t := 1) (by decide) ((Lay_X4_15 (f0.ext EB)).2.1) (ix_of ((Lay_X4_15 (f0.ext EB)).2.2) (by decide)) rfl ?_
    refine x_iconst HE dX4_cutWhy_15 (by decide) ?_
    refine x_ic_lt HE 29 dX4_cutWhy_16 (by decide) (fun c16 => ?_) (fun c16 => ?_)
    · have hw := hw.1 c16
      exact w_X4_cutWhy_29 HE hr f0 hw
    · have hw := hw.2 c16
      refine x_aload_n HE 0 dX4_cutWhy_19 rfl rfl ?_
      refine x_gR HE dX4_cutWhy_20 fd_X4_15 q1852 (Or.inl rfl) (Lay_X4.tag (f0.ext EB)) (Lay_X4_15 (f0.ext EB)).1 ?_
      refine x_iconst HE dX4_cutWhy_23 (by decide) ?_
      refine x_iald HE dX4_cutWhy_24 (t := 1) (by decide) ((Lay_X4_15 (f0.ext EB)).2.1) (ix_of ((Lay_X4_15 (f0.ext EB)).2.2) (by decide)) rfl ?_
      refine x_iconst HE dX4_cutWhy_25 (by decide) ?_
      refine x_ic_ge HE 31 dX4_cutWhy_26 (by decide) (fun c26 => ?_) (fun c26 => ?_)
      · have hw := hw.1 c26
        refine x_aload_n HE 0 dX4_cutWhy_31 rfl rfl ?_
        refine x_ldcwI (n := 1000000) HE dX4_cutWhy_32 q2156 (by unfold i32; decide) rfl ?_
        refine x_pI HE dX4_cutWhy_35 fd_X4_28 q1865 (Or.inl rfl) (Or.inl rfl) (nf_int _) (Lay_X4.tag (f0.ext EB)) (nro (by decide)) (Or.inl nf_X4_28) (fun m35 em35 E35 => ?_)
        have hw := hw m35 em35
        refine x_iconst HE dX4_cutWhy_38 (by decide) ?_
        refine x_istore_n HE 1 (lo' := [some (rV x0), some (iV 0), none]) dX4_cutWhy_39 rfl (Nat.le_of_ble_eq_true rfl) rfl ?_
        exact wl_X4_cutWhy_40 HE hr f0 hw
      · have hw := hw.2 c26
        exact w_X4_cutWhy_29 HE hr f0 hw
  · have hw := hw.2 c4
    refine x_iconst HE dX4_cutWhy_7 (by decide) ?_
    exact x_iret HE hr dX4_cutWhy_8 hw
theorem k_X4_cutWhy {G : GT} {x0 : Int} {Q : Int → Hp → Prop} {h : Hp} (f0 : Lay_X4 h x0) (l : Launch) (hw : g_X4_cutWhy x0 Q h) : XM G l yX4_cutWhy cX4_cutWhy 3 (some .int) 6 146 [rV x0] (QI Q) h :=
  XM.of (by decide) (Nat.le_of_ble_eq_true rfl) (fun X HE hr hn => w_X4_cutWhy_0 HE hr f0 hw)
def g_X4_cut_b25 (x0 : Int) (Q : Int → Hp → Prop) (s0 : Int) (h : Hp) : Prop :=
  Q s0 h
theorem w_X4_cut_25 {G : GT} {X : ET} {h0 : Hp} {x0 : Int} (HE : XE G X cX4_cut 2 RX4 7 168 h0) (hr : XR X (some .int)) (f0 : Lay_X4 h0 x0) {Q : Int → Hp → Prop} {s0 : Int} {h : Hp} (hw : g_X4_cut_b25 x0 Q s0 h) : Wx G X h0 (QI Q) h 25 [some (rV x0), none] [iV s0] := by
  refine Wx.start (fun EB => ?_)
  unfold g_X4_cut_b25 at hw
  exact x_iret HE hr dX4_cut_25 hw
def g_X4_cut (x0 : Int) (Q : Int → Hp → Prop) (h : Hp) : Prop :=
  g_X4_good x0 (fun m1 => Ext h m1 → (g_X4_cutWhy x0 (fun r5 m5 => Ext m1 m5 → (((r5 = 0) → (g_X4_cut_b25 x0 Q (hF m5 x0 27) m5)) ∧ ((r5 ≠ 0) → (g_X4_no x0 r5 (fun r15 m15 => Ext m5 m15 → (g_X4_cut_b25 x0 Q r15 m15)) m5)))) m1)) h
theorem w_X4_cut_0 {G : GT} {X : ET} {h0 : Hp} {x0 : Int} (HE : XE G X cX4_cut 2 RX4 7 168 h0) (hr : XR X (some .int)) (f0 : Lay_X4 h0 x0) {Q : Int → Hp → Prop} {h : Hp} (hw : g_X4_cut x0 Q h) : Wx G X h0 (QI Q) h 0 [some (rV x0), none] [] := by
  refine Wx.start (fun EB => ?_)
  unfold g_X4_cut at hw
  refine x_aload_n HE 0 dX4_cut_0 rfl rfl ?_
  refine x_callV HE dX4_cut_1 rfl (fun l => k_X4_good (f0.ext EB) l hw) (As := []) (rest := []) rfl xc10 (Lay_X4.tag (f0.ext EB)) (lw_V q1955 q1957 qs55 q129 q1958) hy_X4_good rfl rfl (Nat.le_of_ble_eq_true rfl) (Nat.le_of_ble_eq_true rfl) (Nat.le_of_ble_eq_true rfl) (kkV (fun m1 E1 hw => ?_))
  have hw := hw E1
  refine x_aload_n HE 0 dX4_cut_4 rfl rfl ?_
  refine x_callV HE dX4_cut_5 rfl (fun l => k_X4_cutWhy (f0.ext (EB.tr E1)) l hw) (As := []) (rest := []) rfl xc10 (Lay_X4.tag (f0.ext (EB.tr E1))) (lw_V q2356 q2358 qs109 q129 q2359) hy_X4_cutWhy rfl rfl (Nat.le_of_ble_eq_true rfl) (Nat.le_of_ble_eq_true rfl) (Nat.le_of_ble_eq_true rfl) (kkI (fun r5 m5 E5 hw => ?_))
  have hw := hw E5
  refine x_istore_n HE 1 (lo' := [some (rV x0), some (iV r5)]) dX4_cut_8 rfl (Nat.le_of_ble_eq_true rfl) rfl ?_
  refine x_iload_n HE 1 dX4_cut_9 rfl rfl ?_
  refine x_if_eq HE 21 dX4_cut_10 (by decide) (fun c10 => ?_) (fun c10 => ?_)
  · have hw := hw.1 c10
    refine x_aload_n HE 0 dX4_cut_21 rfl rfl ?_
    refine x_gI HE dX4_cut_22 fd_X4_27 q1864 (Or.inl rfl) (Lay_X4.tag (f0.ext (EB.tr (E1.tr E5)))) rfl ?_
    refine Wx.mask [true, false] (lo2 := [some (rV x0), none]) rfl ?_
    exact w_X4_cut_25 HE hr f0 hw
  · have hw := hw.2 c10
    refine x_aload_n HE 0 dX4_cut_13 rfl rfl ?_
    refine x_iload_n HE 1 dX4_cut_14 rfl rfl ?_
    refine x_callV HE dX4_cut_15 rfl (fun l => k_X4_no (f0.ext (EB.tr (E1.tr E5))) l hw) (As := [iV r5]) (rest := []) rfl xc10 (Lay_X4.tag (f0.ext (EB.tr (E1.tr E5)))) (lw_V q1962 q1964 qs56 q129 q1965) hy_X4_no rfl rfl (Nat.le_of_ble_eq_true rfl) (Nat.le_of_ble_eq_true rfl) (Nat.le_of_ble_eq_true rfl) (kkI (fun r15 m15 E15 hw => ?_))
    have hw := hw E15
    refine x_goto HE 25 dX4_cut_18 (by decide) ?_
    refine Wx.mask [true, false] (lo2 := [some (rV x0), none]) rfl ?_
    exact w_X4_cut_25 HE hr f0 hw
theorem k_X4_cut {G : GT} {x0 : Int} {Q : Int → Hp → Prop} {h : Hp} (f0 : Lay_X4 h x0) (l : Launch) (hw : g_X4_cut x0 Q h) : XM G l yX4_cut cX4_cut 2 (some .int) 7 168 [rV x0] (QI Q) h :=
  XM.of (by decide) (Nat.le_of_ble_eq_true rfl) (fun X HE hr hn => w_X4_cut_0 HE hr f0 hw)
def g_X4_cutWaits_b25 (x0 : Int) (Q : Int → Hp → Prop) (s0 : Int) (h : Hp) : Prop :=
  Q s0 h
theorem w_X4_cutWaits_25 {G : GT} {X : ET} {h0 : Hp} {x0 : Int} (HE : XE G X cX4_cutWaits 2 RX4 7 168 h0) (hr : XR X (some .int)) (f0 : Lay_X4 h0 x0) {Q : Int → Hp → Prop} {s0 : Int} {h : Hp} (hw : g_X4_cutWaits_b25 x0 Q s0 h) : Wx G X h0 (QI Q) h 25 [some (rV x0), none] [iV s0] := by
  refine Wx.start (fun EB => ?_)
  unfold g_X4_cutWaits_b25 at hw
  exact x_iret HE hr dX4_cutWaits_25 hw
def g_X4_cutWaits (x0 : Int) (Q : Int → Hp → Prop) (h : Hp) : Prop :=
  g_X4_good x0 (fun m1 => Ext h m1 → (g_X4_cutWhy x0 (fun r5 m5 => Ext m1 m5 → (((r5 = 0) → (g_X4_cutWaits_b25 x0 Q (hF m5 x0 28) m5)) ∧ ((r5 ≠ 0) → (g_X4_no x0 r5 (fun r15 m15 => Ext m5 m15 → (g_X4_cutWaits_b25 x0 Q r15 m15)) m5)))) m1)) h
theorem w_X4_cutWaits_0 {G : GT} {X : ET} {h0 : Hp} {x0 : Int} (HE : XE G X cX4_cutWaits 2 RX4 7 168 h0) (hr : XR X (some .int)) (f0 : Lay_X4 h0 x0) {Q : Int → Hp → Prop} {h : Hp} (hw : g_X4_cutWaits x0 Q h) : Wx G X h0 (QI Q) h 0 [some (rV x0), none] [] := by
  refine Wx.start (fun EB => ?_)
  unfold g_X4_cutWaits at hw
  refine x_aload_n HE 0 dX4_cutWaits_0 rfl rfl ?_
  refine x_callV HE dX4_cutWaits_1 rfl (fun l => k_X4_good (f0.ext EB) l hw) (As := []) (rest := []) rfl xc10 (Lay_X4.tag (f0.ext EB)) (lw_V q1955 q1957 qs55 q129 q1958) hy_X4_good rfl rfl (Nat.le_of_ble_eq_true rfl) (Nat.le_of_ble_eq_true rfl) (Nat.le_of_ble_eq_true rfl) (kkV (fun m1 E1 hw => ?_))
  have hw := hw E1
  refine x_aload_n HE 0 dX4_cutWaits_4 rfl rfl ?_
  refine x_callV HE dX4_cutWaits_5 rfl (fun l => k_X4_cutWhy (f0.ext (EB.tr E1)) l hw) (As := []) (rest := []) rfl xc10 (Lay_X4.tag (f0.ext (EB.tr E1))) (lw_V q2356 q2358 qs109 q129 q2359) hy_X4_cutWhy rfl rfl (Nat.le_of_ble_eq_true rfl) (Nat.le_of_ble_eq_true rfl) (Nat.le_of_ble_eq_true rfl) (kkI (fun r5 m5 E5 hw => ?_))
  have hw := hw E5
  refine x_istore_n HE 1 (lo' := [some (rV x0), some (iV r5)]) dX4_cutWaits_8 rfl (Nat.le_of_ble_eq_true rfl) rfl ?_
  refine x_iload_n HE 1 dX4_cutWaits_9 rfl rfl ?_
  refine x_if_eq HE 21 dX4_cutWaits_10 (by decide) (fun c10 => ?_) (fun c10 => ?_)
  · have hw := hw.1 c10
    refine x_aload_n HE 0 dX4_cutWaits_21 rfl rfl ?_
    refine x_gI HE dX4_cutWaits_22 fd_X4_28 q1865 (Or.inl rfl) (Lay_X4.tag (f0.ext (EB.tr (E1.tr E5)))) rfl ?_
    refine Wx.mask [true, false] (lo2 := [some (rV x0), none]) rfl ?_
    exact w_X4_cutWaits_25 HE hr f0 hw
  · have hw := hw.2 c10
    refine x_aload_n HE 0 dX4_cutWaits_13 rfl rfl ?_
    refine x_iload_n HE 1 dX4_cutWaits_14 rfl rfl ?_
    refine x_callV HE dX4_cutWaits_15 rfl (fun l => k_X4_no (f0.ext (EB.tr (E1.tr E5))) l hw) (As := [iV r5]) (rest := []) rfl xc10 (Lay_X4.tag (f0.ext (EB.tr (E1.tr E5)))) (lw_V q1962 q1964 qs56 q129 q1965) hy_X4_no rfl rfl (Nat.le_of_ble_eq_true rfl) (Nat.le_of_ble_eq_true rfl) (Nat.le_of_ble_eq_true rfl) (kkI (fun r15 m15 E15 hw => ?_))
    have hw := hw E15
    refine x_goto HE 25 dX4_cutWaits_18 (by decide) ?_
    refine Wx.mask [true, false] (lo2 := [some (rV x0), none]) rfl ?_
    exact w_X4_cutWaits_25 HE hr f0 hw
theorem k_X4_cutWaits {G : GT} {x0 : Int} {Q : Int → Hp → Prop} {h : Hp} (f0 : Lay_X4 h x0) (l : Launch) (hw : g_X4_cutWaits x0 Q h) : XM G l yX4_cutWaits cX4_cutWaits 2 (some .int) 7 168 [rV x0] (QI Q) h :=
  XM.of (by decide) (Nat.le_of_ble_eq_true rfl) (fun X HE hr hn => w_X4_cutWaits_0 HE hr f0 hw)
def g_X4_canNotLet_b48 (x0 x1 x2 : Int) (Q : Int → Hp → Prop) (s0 : Int) (h : Hp) : Prop :=
  (s0 = 0 ∨ s0 = 1) ∧ Q s0 h
theorem w_X4_canNotLet_48 {G : GT} {X : ET} {h0 : Hp} {x0 x1 x2 : Int} (HE : XE G X cX4_canNotLet 3 RX4 2 43 h0) (hr : XR X (some .boolean)) (f0 : Lay_X4 h0 x0) {Q : Int → Hp → Prop} {s0 : Int} {h : Hp} (hw : g_X4_canNotLet_b48 x0 x1 x2 Q s0 h) : Wx G X h0 (QI Q) h 48 [some (rV x0), some (iV x1), some (iV x2)] [iV s0] := by
  refine Wx.start (fun EB => ?_)
  unfold g_X4_canNotLet_b48 at hw
  exact x_zret HE hr dX4_canNotLet_48 hw.1 hw.2
def g_X4_canNotLet_b43 (x0 x1 x2 : Int) (Q : Int → Hp → Prop) (h : Hp) : Prop :=
  g_X4_canNotLet_b48 x0 x1 x2 Q 1 h
theorem w_X4_canNotLet_43 {G : GT} {X : ET} {h0 : Hp} {x0 x1 x2 : Int} (HE : XE G X cX4_canNotLet 3 RX4 2 43 h0) (hr : XR X (some .boolean)) (f0 : Lay_X4 h0 x0) {Q : Int → Hp → Prop} {h : Hp} (hw : g_X4_canNotLet_b43 x0 x1 x2 Q  h) : Wx G X h0 (QI Q) h 43 [some (rV x0), some (iV x1), some (iV x2)] [] := by
  refine Wx.start (fun EB => ?_)
  unfold g_X4_canNotLet_b43 at hw
  refine x_iconst HE dX4_canNotLet_43 (by decide) ?_
  refine x_goto HE 48 dX4_canNotLet_44 (by decide) ?_
  exact w_X4_canNotLet_48 HE hr f0 hw
def g_X4_canNotLet (x0 x1 x2 : Int) (Q : Int → Hp → Prop) (h : Hp) : Prop :=
  g_X4_isWaiting (x0 + 5) x1 (fun r5 m5 => Ext h m5 → (((r5 = 0) → (g_X4_canNotLet_b43 x0 x1 x2 Q m5)) ∧ ((r5 ≠ 0) → (g_X4_isWaiting (x0 + 5) x2 (fun r16 m16 => Ext m5 m16 → (((r16 = 0) → (g_X4_canNotLet_b43 x0 x1 x2 Q m16)) ∧ ((r16 ≠ 0) → (g_X4_its (x0 + 5) x1 3 (fun r28 m28 => Ext m16 m28 → (g_X4_its (x0 + 5) x2 3 (fun r37 m37 => Ext m28 m37 → (((r28 ≤ r37) → (g_X4_canNotLet_b48 x0 x1 x2 Q 0 m37)) ∧ ((r37 < r28) → (g_X4_canNotLet_b43 x0 x1 x2 Q m37)))) m28)) m16)))) m5)))) h
theorem w_X4_canNotLet_0 {G : GT} {X : ET} {h0 : Hp} {x0 x1 x2 : Int} (HE : XE G X cX4_canNotLet 3 RX4 2 43 h0) (hr : XR X (some .boolean)) (f0 : Lay_X4 h0 x0) {Q : Int → Hp → Prop} {h : Hp} (hw : g_X4_canNotLet x0 x1 x2 Q h) : Wx G X h0 (QI Q) h 0 [some (rV x0), some (iV x1), some (iV x2)] [] := by
  refine Wx.start (fun EB => ?_)
  unfold g_X4_canNotLet at hw
  refine x_aload_n HE 0 dX4_canNotLet_0 rfl rfl ?_
  refine x_gR HE dX4_canNotLet_1 fd_X4_17 q1854 (Or.inl rfl) (Lay_X4.tag (f0.ext EB)) (Lay_X4_17 (f0.ext EB)).1 ?_
  refine x_iload_n HE 1 dX4_canNotLet_4 rfl rfl ?_
  refine x_callS HE dX4_canNotLet_5 rfl (fun l => k_X4_isWaiting ⟨(Lay_X4_17 (f0.ext EB)).2.1, (Lay_X4_17 (f0.ext EB)).2.2⟩ l hw) (As := [rV (x0 + 5), iV x1]) (rest := []) rfl (lw_S q2165 q2166 q129 q2167) hy_X4_isWaiting.2 rfl rfl (Nat.le_of_ble_eq_true rfl) (Nat.le_of_ble_eq_true rfl) (Nat.le_of_ble_eq_true rfl) (kkI (fun r5 m5 E5 hw => ?_))
  have hw := hw E5
  refine x_if_eq HE 43 dX4_canNotLet_8 (by decide) (fun c8 => ?_) (fun c8 => ?_)
  · have hw := hw.1 c8
    exact w_X4_canNotLet_43 HE hr f0 hw
  · have hw := hw.2 c8
    refine x_aload_n HE 0 dX4_canNotLet_11 rfl rfl ?_
    refine x_gR HE dX4_canNotLet_12 fd_X4_17 q1854 (Or.inl rfl) (Lay_X4.tag (f0.ext (EB.tr E5))) (Lay_X4_17 (f0.ext (EB.tr E5))).1 ?_
    refine x_iload_n HE 2 dX4_canNotLet_15 rfl rfl ?_
    refine x_callS HE dX4_canNotLet_16 rfl (fun l => k_X4_isWaiting ⟨(Lay_X4_17 (f0.ext (EB.tr E5))).2.1, (Lay_X4_17 (f0.ext (EB.tr E5))).2.2⟩ l hw) (As := [rV (x0 + 5), iV x2]) (rest := []) rfl (lw_S q2165 q2166 q129 q2167) hy_X4_isWaiting.2 rfl rfl (Nat.le_of_ble_eq_true rfl) (Nat.le_of_ble_eq_true rfl) (Nat.le_of_ble_eq_true rfl) (kkI (fun r16 m16 E16 hw => ?_))
    have hw := hw E16
    refine x_if_eq HE 43 dX4_canNotLet_19 (by decide) (fun c19 => ?_) (fun c19 => ?_)
    · have hw := hw.1 c19
      exact w_X4_canNotLet_43 HE hr f0 hw
    · have hw := hw.2 c19
      refine x_aload_n HE 0 dX4_canNotLet_22 rfl rfl ?_
      refine x_gR HE dX4_canNotLet_23 fd_X4_17 q1854 (Or.inl rfl) (Lay_X4.tag (f0.ext (EB.tr (E5.tr E16)))) (Lay_X4_17 (f0.ext (EB.tr (E5.tr E16)))).1 ?_
      refine x_iload_n HE 1 dX4_canNotLet_26 rfl rfl ?_
      refine x_iconst HE dX4_canNotLet_27 (by decide) ?_
      refine x_callS HE dX4_canNotLet_28 rfl (fun l => k_X4_its ⟨(Lay_X4_17 (f0.ext (EB.tr (E5.tr E16)))).2.1, (Lay_X4_17 (f0.ext (EB.tr (E5.tr E16)))).2.2⟩ l hw) (As := [rV (x0 + 5), iV x1, iV 3]) (rest := []) rfl (lw_S q2168 q2169 q129 q2170) hy_X4_its.2 rfl rfl (Nat.le_of_ble_eq_true rfl) (Nat.le_of_ble_eq_true rfl) (Nat.le_of_ble_eq_true rfl) (kkI (fun r28 m28 E28 hw => ?_))
      have hw := hw E28
      refine x_aload_n HE 0 dX4_canNotLet_31 rfl rfl ?_
      refine x_gR HE dX4_canNotLet_32 fd_X4_17 q1854 (Or.inl rfl) (Lay_X4.tag (f0.ext (EB.tr (E5.tr (E16.tr E28))))) (Lay_X4_17 (f0.ext (EB.tr (E5.tr (E16.tr E28))))).1 ?_
      refine x_iload_n HE 2 dX4_canNotLet_35 rfl rfl ?_
      refine x_iconst HE dX4_canNotLet_36 (by decide) ?_
      refine x_callS HE dX4_canNotLet_37 rfl (fun l => k_X4_its ⟨(Lay_X4_17 (f0.ext (EB.tr (E5.tr (E16.tr E28))))).2.1, (Lay_X4_17 (f0.ext (EB.tr (E5.tr (E16.tr E28))))).2.2⟩ l hw) (As := [rV (x0 + 5), iV x2, iV 3]) (rest := [iV r28]) rfl (lw_S q2168 q2169 q129 q2170) hy_X4_its.2 rfl rfl (Nat.le_of_ble_eq_true rfl) (Nat.le_of_ble_eq_true rfl) (Nat.le_of_ble_eq_true rfl) (kkI (fun r37 m37 E37 hw => ?_))
      have hw := hw E37
      refine x_ic_le HE 47 dX4_canNotLet_40 (by decide) (fun c40 => ?_) (fun c40 => ?_)
      · have hw := hw.1 c40
        refine x_iconst HE dX4_canNotLet_47 (by decide) ?_
        exact w_X4_canNotLet_48 HE hr f0 hw
      · have hw := hw.2 c40
        exact w_X4_canNotLet_43 HE hr f0 hw
theorem k_X4_canNotLet {G : GT} {x0 x1 x2 : Int} {Q : Int → Hp → Prop} {h : Hp} (f0 : Lay_X4 h x0) (l : Launch) (hw : g_X4_canNotLet x0 x1 x2 Q h) : XM G l yX4_canNotLet cX4_canNotLet 3 (some .boolean) 2 43 [rV x0, iV x1, iV x2] (QI Q) h :=
  XM.of (by decide) (Nat.le_of_ble_eq_true rfl) (fun X HE hr hn => w_X4_canNotLet_0 HE hr f0 hw)
