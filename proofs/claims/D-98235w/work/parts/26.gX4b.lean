/-! written by tools/mkgen2.py -/
set_option maxRecDepth 100000
def g_X4_copy_b28 (x0 x1 x2 x3 x4 : Int) (Q : Hp → Prop) (h : Hp) : Prop :=
  Q h
theorem w_X4_copy_28 {G : GT} {X : ET} {h0 : Hp} {x0 x1 x2 x3 x4 : Int} (HE : XE G X cX4_copy 6 RX4 0 0 h0) (hr : XR X none) {Q : Hp → Prop} {h : Hp} (hw : g_X4_copy_b28 x0 x1 x2 x3 x4 Q  h) : Wx G X h0 (QV Q) h 28 [some (rV x0), some (iV x1), some (rV x2), some (iV x3), some (iV x4), none] [] := by
  refine Wx.start (fun EB => ?_)
  unfold g_X4_copy_b28 at hw
  exact x_vret HE hr dX4_copy_28 hw
def g_X4_copy_L3 (x0 x1 x2 x3 x4 : Int) (Q : Hp → Prop) (K3 : Int → Hp → Prop) (l5 : Int) (h : Hp) : Prop :=
  ((x4 ≤ l5) → (g_X4_copy_b28 x0 x1 x2 x3 x4 Q h)) ∧ ((l5 < x4) → ((i32 (x3 + l5)) ∧ ((i32 (x1 + l5)) ∧ ((hT h x0 = 1) ∧ (((0 : Int) ≤ (x1 + l5) ∧ (x1 + l5) < hL h x0) ∧ ((hT h x2 = 1) ∧ (((0 : Int) ≤ (x3 + l5) ∧ (x3 + l5) < hL h x2) ∧ (∀ m21 : Hp, m21 = setA h x2 (x3 + l5) (hA h x0 (x1 + l5)) → ((i32 (l5 + 1)) ∧ (∀ y22 : Int, y22 = l5 + 1 → (K3 y22 m21)))))))))))
theorem w_X4_copy_3 {G : GT} {X : ET} {h0 : Hp} {x0 x1 x2 x3 x4 : Int} (HE : XE G X cX4_copy 6 RX4 0 0 h0) (hr : XR X none) {Q : Hp → Prop} {K3 : Int → Hp → Prop} (hK3 : ∀ (l5 : Int) (h : Hp), K3 l5 h → Wx G X h0 (QV Q) h 3 [some (rV x0), some (iV x1), some (rV x2), some (iV x3), some (iV x4), some (iV l5)] []) {l5 : Int} {h : Hp} (hw : g_X4_copy_L3 x0 x1 x2 x3 x4 Q K3 l5 h) : Wx G X h0 (QV Q) h 3 [some (rV x0), some (iV x1), some (rV x2), some (iV x3), some (iV x4), some (iV l5)] [] := by
  refine Wx.start (fun EB => ?_)
  unfold g_X4_copy_L3 at hw
  refine x_iload HE dX4_copy_3 rfl ?_
  refine x_iload HE dX4_copy_5 rfl ?_
  refine x_ic_ge HE 28 dX4_copy_7 (by decide) (fun c7 => ?_) (fun c7 => ?_)
  · have hw := hw.1 c7
    refine Wx.mask [true, true, true, true, true, false] (lo2 := [some (rV x0), some (iV x1), some (rV x2), some (iV x3), some (iV x4), none]) rfl ?_
    exact w_X4_copy_28 HE hr hw
  · have hw := hw.2 c7
    refine x_aload_n HE 2 dX4_copy_10 rfl rfl ?_
    refine x_iload_n HE 3 dX4_copy_11 rfl rfl ?_
    refine x_iload HE dX4_copy_12 rfl ?_
    obtain ⟨v14, hw⟩ := hw
    refine x_iadd HE dX4_copy_14 v14 ?_
    refine x_aload_n HE 0 dX4_copy_15 rfl rfl ?_
    refine x_iload_n HE 1 dX4_copy_16 rfl rfl ?_
    refine x_iload HE dX4_copy_17 rfl ?_
    obtain ⟨v19, hw⟩ := hw
    refine x_iadd HE dX4_copy_19 v19 ?_
    obtain ⟨v20, hw⟩ := hw
    obtain ⟨i20, hw⟩ := hw
    refine x_iald HE dX4_copy_20 (t := 1) (by decide) v20 i20 rfl ?_
    obtain ⟨v21, hw⟩ := hw
    obtain ⟨i21, hw⟩ := hw
    refine x_iast HE dX4_copy_21 v21 i21 (fun m21 em21 E21 => ?_)
    have hw := hw m21 em21
    obtain ⟨v22, hw⟩ := hw
    refine x_iincN HE (fun y22 => [some (rV x0), some (iV x1), some (rV x2), some (iV x3), some (iV x4), some (iV y22)]) dX4_copy_22 rfl v22 (Nat.le_of_ble_eq_true rfl) (fun _ => rfl) (fun y22 ey22 => ?_)
    have hw := hw y22 ey22
    refine x_goto HE 3 dX4_copy_25 (by decide) ?_
    exact hK3 _ _ hw
theorem wl_X4_copy_3 {G : GT} {X : ET} {h0 : Hp} {x0 x1 x2 x3 x4 : Int} (HE : XE G X cX4_copy 6 RX4 0 0 h0) (hr : XR X none) {Q : Hp → Prop} {l5 : Int} {h : Hp} (hw : Lp1 (g_X4_copy_L3 x0 x1 x2 x3 x4 Q) l5 h) : Wx G X h0 (QV Q) h 3 [some (rV x0), some (iV x1), some (rV x2), some (iV x3), some (iV x4), some (iV l5)] [] := by
  obtain ⟨n, hw⟩ := hw
  induction n generalizing l5 h with
  | zero => exact hw.elim
  | succ n ih => exact w_X4_copy_3 HE hr (fun _ _ hk => ih hk) hw
def g_X4_copy (x0 x1 x2 x3 x4 : Int) (Q : Hp → Prop) (h : Hp) : Prop :=
  Lp1 (g_X4_copy_L3 x0 x1 x2 x3 x4 Q) 0 h
theorem w_X4_copy_0 {G : GT} {X : ET} {h0 : Hp} {x0 x1 x2 x3 x4 : Int} (HE : XE G X cX4_copy 6 RX4 0 0 h0) (hr : XR X none) {Q : Hp → Prop} {h : Hp} (hw : g_X4_copy x0 x1 x2 x3 x4 Q h) : Wx G X h0 (QV Q) h 0 [some (rV x0), some (iV x1), some (rV x2), some (iV x3), some (iV x4), none] [] := by
  refine Wx.start (fun EB => ?_)
  unfold g_X4_copy at hw
  refine x_iconst HE dX4_copy_0 (by decide) ?_
  refine x_istore HE (lo' := [some (rV x0), some (iV x1), some (rV x2), some (iV x3), some (iV x4), some (iV 0)]) dX4_copy_1 (Nat.le_of_ble_eq_true rfl) rfl ?_
  exact wl_X4_copy_3 HE hr hw
theorem k_X4_copy {G : GT} {x0 x1 x2 x3 x4 : Int} {Q : Hp → Prop} {h : Hp} (l : Launch) (hw : g_X4_copy x0 x1 x2 x3 x4 Q h) : XM G l yX4_copy cX4_copy 6 none 0 0 [rV x0, iV x1, rV x2, iV x3, iV x4] (QV Q) h :=
  XM.of (by decide) (Nat.le_of_ble_eq_true rfl) (fun X HE hr hn => w_X4_copy_0 HE hr  hw)
def g_X4_asTold (x0 : Int) (Q : Hp → Prop) (h : Hp) : Prop :=
  ∀ m7 : Hp, m7 = setF h x0 25 (hA h (x0 + 3) 4) → (g_X4_copy (x0 + 3) 23 (x0 + 9) 0 18 (fun m23 => Ext m7 m23 → (g_X4_copy (x0 + 3) 41 (x0 + 10) 0 70 (fun m39 => Ext m23 m39 → (Q m39)) m23)) m7)
theorem w_X4_asTold_0 {G : GT} {X : ET} {h0 : Hp} {x0 : Int} (HE : XE G X cX4_asTold 1 RX4 1 25 h0) (hr : XR X none) (f0 : Lay_X4 h0 x0) {Q : Hp → Prop} {h : Hp} (hw : g_X4_asTold x0 Q h) : Wx G X h0 (QV Q) h 0 [some (rV x0)] [] := by
  refine Wx.start (fun EB => ?_)
  unfold g_X4_asTold at hw
  refine x_aload_n HE 0 dX4_asTold_0 rfl rfl ?_
  refine x_aload_n HE 0 dX4_asTold_1 rfl rfl ?_
  refine x_gR HE dX4_asTold_2 fd_X4_15 q1852 (Or.inl rfl) (Lay_X4.tag (f0.ext EB)) (Lay_X4_15 (f0.ext EB)).1 ?_
  refine x_iconst HE dX4_asTold_5 (by decide) ?_
  refine x_iald HE dX4_asTold_6 (t := 1) (by decide) ((Lay_X4_15 (f0.ext EB)).2.1) (ix_of ((Lay_X4_15 (f0.ext EB)).2.2) (by decide)) rfl ?_
  refine x_pI HE dX4_asTold_7 fd_X4_25 q1862 (Or.inl rfl) (Or.inl rfl) (nf_int _) (Lay_X4.tag (f0.ext EB)) (nro (by decide)) (Or.inl nf_X4_25) (fun m7 em7 E7 => ?_)
  have hw := hw m7 em7
  refine x_aload_n HE 0 dX4_asTold_10 rfl rfl ?_
  refine x_gR HE dX4_asTold_11 fd_X4_15 q1852 (Or.inl rfl) (Lay_X4.tag (f0.ext (EB.tr E7))) (Lay_X4_15 (f0.ext (EB.tr E7))).1 ?_
  refine x_bipush HE dX4_asTold_14 (by decide) ?_
  refine x_aload_n HE 0 dX4_asTold_16 rfl rfl ?_
  refine x_gR HE dX4_asTold_17 fd_X4_23 q1860 (Or.inl rfl) (Lay_X4.tag (f0.ext (EB.tr E7))) (Lay_X4_23 (f0.ext (EB.tr E7))).1 ?_
  refine x_iconst HE dX4_asTold_20 (by decide) ?_
  refine x_bipush HE dX4_asTold_21 (by decide) ?_
  refine x_callS HE dX4_asTold_23 rfl (fun l => k_X4_copy  l hw) (As := [rV (x0 + 3), iV 23, rV (x0 + 9), iV 0, iV 18]) (rest := []) rfl (lw_S q2113 q2114 q129 q2115) hy_X4_copy.2 rfl rfl (Nat.le_of_ble_eq_true rfl) (Nat.le_of_ble_eq_true rfl) (Nat.le_of_ble_eq_true rfl) (kkV (fun m23 E23 hw => ?_))
  have hw := hw E23
  refine x_aload_n HE 0 dX4_asTold_26 rfl rfl ?_
  refine x_gR HE dX4_asTold_27 fd_X4_15 q1852 (Or.inl rfl) (Lay_X4.tag (f0.ext (EB.tr (E7.tr E23)))) (Lay_X4_15 (f0.ext (EB.tr (E7.tr E23)))).1 ?_
  refine x_bipush HE dX4_asTold_30 (by decide) ?_
  refine x_aload_n HE 0 dX4_asTold_32 rfl rfl ?_
  refine x_gR HE dX4_asTold_33 fd_X4_24 q1861 (Or.inl rfl) (Lay_X4.tag (f0.ext (EB.tr (E7.tr E23)))) (Lay_X4_24 (f0.ext (EB.tr (E7.tr E23)))).1 ?_
  refine x_iconst HE dX4_asTold_36 (by decide) ?_
  refine x_bipush HE dX4_asTold_37 (by decide) ?_
  refine x_callS HE dX4_asTold_39 rfl (fun l => k_X4_copy  l hw) (As := [rV (x0 + 3), iV 41, rV (x0 + 10), iV 0, iV 70]) (rest := []) rfl (lw_S q2113 q2114 q129 q2115) hy_X4_copy.2 rfl rfl (Nat.le_of_ble_eq_true rfl) (Nat.le_of_ble_eq_true rfl) (Nat.le_of_ble_eq_true rfl) (kkV (fun m39 E39 hw => ?_))
  have hw := hw E39
  exact x_vret HE hr dX4_asTold_42 hw
theorem k_X4_asTold {G : GT} {x0 : Int} {Q : Hp → Prop} {h : Hp} (f0 : Lay_X4 h x0) (l : Launch) (hw : g_X4_asTold x0 Q h) : XM G l yX4_asTold cX4_asTold 1 none 1 25 [rV x0] (QV Q) h :=
  XM.of (by decide) (Nat.le_of_ble_eq_true rfl) (fun X HE hr hn => w_X4_asTold_0 HE hr f0 hw)
def g_X4_man (x0 x1 x2 : Int) (Q : Int → Hp → Prop) (h : Hp) : Prop :=
  (i32 (7 * x1)) ∧ ((i32 ((7 * x1) + x2)) ∧ (((0 : Int) ≤ ((7 * x1) + x2) ∧ ((7 * x1) + x2) < 70) ∧ (Q (hA h (x0 + 10) ((7 * x1) + x2)) h)))
theorem w_X4_man_0 {G : GT} {X : ET} {h0 : Hp} {x0 x1 x2 : Int} (HE : XE G X cX4_man 3 RX4 0 0 h0) (hr : XR X (some .int)) (f0 : Lay_X4 h0 x0) {Q : Int → Hp → Prop} {h : Hp} (hw : g_X4_man x0 x1 x2 Q h) : Wx G X h0 (QI Q) h 0 [some (rV x0), some (iV x1), some (iV x2)] [] := by
  refine Wx.start (fun EB => ?_)
  unfold g_X4_man at hw
  refine x_aload_n HE 0 dX4_man_0 rfl rfl ?_
  refine x_gR HE dX4_man_1 fd_X4_24 q1861 (Or.inl rfl) (Lay_X4.tag (f0.ext EB)) (Lay_X4_24 (f0.ext EB)).1 ?_
  refine x_bipush HE dX4_man_4 (by decide) ?_
  refine x_iload_n HE 1 dX4_man_6 rfl rfl ?_
  obtain ⟨v7, hw⟩ := hw
  refine x_imul HE dX4_man_7 v7 ?_
  refine x_iload_n HE 2 dX4_man_8 rfl rfl ?_
  obtain ⟨v9, hw⟩ := hw
  refine x_iadd HE dX4_man_9 v9 ?_
  obtain ⟨i10, hw⟩ := hw
  refine x_iald HE dX4_man_10 (t := 1) (by decide) ((Lay_X4_24 (f0.ext EB)).2.1) (ix_of ((Lay_X4_24 (f0.ext EB)).2.2) i10) rfl ?_
  exact x_iret HE hr dX4_man_11 hw
theorem k_X4_man {G : GT} {x0 x1 x2 : Int} {Q : Int → Hp → Prop} {h : Hp} (f0 : Lay_X4 h x0) (l : Launch) (hw : g_X4_man x0 x1 x2 Q h) : XM G l yX4_man cX4_man 3 (some .int) 0 0 [rV x0, iV x1, iV x2] (QI Q) h :=
  XM.of (by decide) (Nat.le_of_ble_eq_true rfl) (fun X HE hr hn => w_X4_man_0 HE hr f0 hw)
def g_X4_saysFirst_b43 (x0 x1 : Int) (Q : Int → Hp → Prop) (s0 s1 : Int) (h : Hp) : Prop :=
  (i32 (s0 + s1)) ∧ (Q (s0 + s1) h)
theorem w_X4_saysFirst_43 {G : GT} {X : ET} {h0 : Hp} {x0 x1 : Int} (HE : XE G X cX4_saysFirst 3 RX4 1 22 h0) (hr : XR X (some .int)) (f0 : Lay_X4 h0 x0) {Q : Int → Hp → Prop} {s0 s1 : Int} {h : Hp} (hw : g_X4_saysFirst_b43 x0 x1 Q s0 s1 h) : Wx G X h0 (QI Q) h 43 [some (rV x0), some (iV x1), none] [iV s1, iV s0] := by
  refine Wx.start (fun EB => ?_)
  unfold g_X4_saysFirst_b43 at hw
  obtain ⟨v43, hw⟩ := hw
  refine x_iadd HE dX4_saysFirst_43 v43 ?_
  exact x_iret HE hr dX4_saysFirst_44 hw
def g_X4_saysFirst (x0 x1 : Int) (Q : Int → Hp → Prop) (h : Hp) : Prop :=
  g_X4_man x0 x1 0 (fun r3 m3 => Ext h m3 → (g_X4_man x0 x1 2 (fun r10 m10 => Ext m3 m10 → (((r3 ≠ 1) → (((r3 ≠ 2) → (g_X4_saysFirst_b43 x0 x1 Q r10 0 m10)) ∧ ((r3 = 2) → (g_X4_man x0 x1 1 (fun r36 m36 => Ext m10 m36 → (g_X4_saysFirst_b43 x0 x1 Q r10 r36 m36)) m10)))) ∧ ((r3 = 1) → (g_X4_man x0 x1 1 (fun r21 m21 => Ext m10 m21 → ((i32 (-r21)) ∧ (g_X4_saysFirst_b43 x0 x1 Q r10 (-r21) m21))) m10)))) m3)) h
theorem w_X4_saysFirst_0 {G : GT} {X : ET} {h0 : Hp} {x0 x1 : Int} (HE : XE G X cX4_saysFirst 3 RX4 1 22 h0) (hr : XR X (some .int)) (f0 : Lay_X4 h0 x0) {Q : Int → Hp → Prop} {h : Hp} (hw : g_X4_saysFirst x0 x1 Q h) : Wx G X h0 (QI Q) h 0 [some (rV x0), some (iV x1), none] [] := by
  refine Wx.start (fun EB => ?_)
  unfold g_X4_saysFirst at hw
  refine x_aload_n HE 0 dX4_saysFirst_0 rfl rfl ?_
  refine x_iload_n HE 1 dX4_saysFirst_1 rfl rfl ?_
  refine x_iconst HE dX4_saysFirst_2 (by decide) ?_
  refine x_callV HE dX4_saysFirst_3 rfl (fun l => k_X4_man (f0.ext EB) l hw) (As := [iV x1, iV 0]) (rest := []) rfl xc10 (Lay_X4.tag (f0.ext EB)) (lw_V q2124 q2126 qs82 q129 q2127) hy_X4_man rfl rfl (Nat.le_of_ble_eq_true rfl) (Nat.le_of_ble_eq_true rfl) (Nat.le_of_ble_eq_true rfl) (kkI (fun r3 m3 E3 hw => ?_))
  have hw := hw E3
  refine x_istore_n HE 2 (lo' := [some (rV x0), some (iV x1), some (iV r3)]) dX4_saysFirst_6 rfl (Nat.le_of_ble_eq_true rfl) rfl ?_
  refine x_aload_n HE 0 dX4_saysFirst_7 rfl rfl ?_
  refine x_iload_n HE 1 dX4_saysFirst_8 rfl rfl ?_
  refine x_iconst HE dX4_saysFirst_9 (by decide) ?_
  refine x_callV HE dX4_saysFirst_10 rfl (fun l => k_X4_man (f0.ext (EB.tr E3)) l hw) (As := [iV x1, iV 2]) (rest := []) rfl xc10 (Lay_X4.tag (f0.ext (EB.tr E3))) (lw_V q2124 q2126 qs82 q129 q2127) hy_X4_man rfl rfl (Nat.le_of_ble_eq_true rfl) (Nat.le_of_ble_eq_true rfl) (Nat.le_of_ble_eq_true rfl) (kkI (fun r10 m10 E10 hw => ?_))
  have hw := hw E10
  refine x_iload_n HE 2 dX4_saysFirst_13 rfl rfl ?_
  refine x_iconst HE dX4_saysFirst_14 (by decide) ?_
  refine x_ic_ne HE 28 dX4_saysFirst_15 (by decide) (fun c15 => ?_) (fun c15 => ?_)
  · have hw := hw.1 c15
    refine x_iload_n HE 2 dX4_saysFirst_28 rfl rfl ?_
    refine x_iconst HE dX4_saysFirst_29 (by decide) ?_
    refine x_ic_ne HE 42 dX4_saysFirst_30 (by decide) (fun c30 => ?_) (fun c30 => ?_)
    · have hw := hw.1 c30
      refine x_iconst HE dX4_saysFirst_42 (by decide) ?_
      refine Wx.mask [true, true, false] (lo2 := [some (rV x0), some (iV x1), none]) rfl ?_
      exact w_X4_saysFirst_43 HE hr f0 hw
    · have hw := hw.2 c30
      refine x_aload_n HE 0 dX4_saysFirst_33 rfl rfl ?_
      refine x_iload_n HE 1 dX4_saysFirst_34 rfl rfl ?_
      refine x_iconst HE dX4_saysFirst_35 (by decide) ?_
      refine x_callV HE dX4_saysFirst_36 rfl (fun l => k_X4_man (f0.ext (EB.tr (E3.tr E10))) l hw) (As := [iV x1, iV 1]) (rest := [iV r10]) rfl xc10 (Lay_X4.tag (f0.ext (EB.tr (E3.tr E10)))) (lw_V q2124 q2126 qs82 q129 q2127) hy_X4_man rfl rfl (Nat.le_of_ble_eq_true rfl) (Nat.le_of_ble_eq_true rfl) (Nat.le_of_ble_eq_true rfl) (kkI (fun r36 m36 E36 hw => ?_))
      have hw := hw E36
      refine x_goto HE 43 dX4_saysFirst_39 (by decide) ?_
      refine Wx.mask [true, true, false] (lo2 := [some (rV x0), some (iV x1), none]) rfl ?_
      exact w_X4_saysFirst_43 HE hr f0 hw
  · have hw := hw.2 c15
    refine x_aload_n HE 0 dX4_saysFirst_18 rfl rfl ?_
    refine x_iload_n HE 1 dX4_saysFirst_19 rfl rfl ?_
    refine x_iconst HE dX4_saysFirst_20 (by decide) ?_
    refine x_callV HE dX4_saysFirst_21 rfl (fun l => k_X4_man (f0.ext (EB.tr (E3.tr E10))) l hw) (As := [iV x1, iV 1]) (rest := [iV r10]) rfl xc10 (Lay_X4.tag (f0.ext (EB.tr (E3.tr E10)))) (lw_V q2124 q2126 qs82 q129 q2127) hy_X4_man rfl rfl (Nat.le_of_ble_eq_true rfl) (Nat.le_of_ble_eq_true rfl) (Nat.le_of_ble_eq_true rfl) (kkI (fun r21 m21 E21 hw => ?_))
    have hw := hw E21
    obtain ⟨v24, hw⟩ := hw
    refine x_ineg HE dX4_saysFirst_24 v24 ?_
    refine x_goto HE 43 dX4_saysFirst_25 (by decide) ?_
    refine Wx.mask [true, true, false] (lo2 := [some (rV x0), some (iV x1), none]) rfl ?_
    exact w_X4_saysFirst_43 HE hr f0 hw
theorem k_X4_saysFirst {G : GT} {x0 x1 : Int} {Q : Int → Hp → Prop} {h : Hp} (f0 : Lay_X4 h x0) (l : Launch) (hw : g_X4_saysFirst x0 x1 Q h) : XM G l yX4_saysFirst cX4_saysFirst 3 (some .int) 1 22 [rV x0, iV x1] (QI Q) h :=
  XM.of (by decide) (Nat.le_of_ble_eq_true rfl) (fun X HE hr hn => w_X4_saysFirst_0 HE hr f0 hw)
def g_X4_layFirst_b141 (x0 x1 : Int) (Q : Hp → Prop) (h : Hp) : Prop :=
  Q h
theorem w_X4_layFirst_141 {G : GT} {X : ET} {h0 : Hp} {x0 x1 : Int} (HE : XE G X cX4_layFirst 4 RX4 2 44 h0) (hr : XR X none) (f0 : Lay_X4 h0 x0) (f1 : (hT h0 x1 = 1 ∧ hL h0 x1 = 108)) {Q : Hp → Prop} {h : Hp} (hw : g_X4_layFirst_b141 x0 x1 Q  h) : Wx G X h0 (QV Q) h 141 [some (rV x0), some (rV x1), none, none] [] := by
  refine Wx.start (fun EB => ?_)
  unfold g_X4_layFirst_b141 at hw
  exact x_vret HE hr dX4_layFirst_141 hw
def g_X4_layFirst_L108 (x0 x1 : Int) (Q : Hp → Prop) (K108 : Int → Hp → Prop) (l2 : Int) (h : Hp) : Prop :=
  (((hF h x0 25) ≤ l2) → (g_X4_layFirst_b141 x0 x1 Q h)) ∧ ((l2 < (hF h x0 25)) → ((i32 (4 * l2)) ∧ ((i32 (92 + (4 * l2))) ∧ ((i32 (6 * l2)) ∧ ((i32 ((6 * l2) + 1)) ∧ (((0 : Int) ≤ ((6 * l2) + 1) ∧ ((6 * l2) + 1) < 24) ∧ (((0 : Int) ≤ (92 + (4 * l2)) ∧ (92 + (4 * l2)) < 108) ∧ (∀ m134 : Hp, m134 = setA h x1 (92 + (4 * l2)) (hA h (x0 + 9) ((6 * l2) + 1)) → ((i32 (l2 + 1)) ∧ (∀ y135 : Int, y135 = l2 + 1 → (K108 y135 m134)))))))))))
theorem w_X4_layFirst_108 {G : GT} {X : ET} {h0 : Hp} {x0 x1 : Int} (HE : XE G X cX4_layFirst 4 RX4 2 44 h0) (hr : XR X none) (f0 : Lay_X4 h0 x0) (f1 : (hT h0 x1 = 1 ∧ hL h0 x1 = 108)) {Q : Hp → Prop} {K108 : Int → Hp → Prop} (hK108 : ∀ (l2 : Int) (h : Hp), K108 l2 h → Wx G X h0 (QV Q) h 108 [some (rV x0), some (rV x1), some (iV l2), none] []) {l2 : Int} {h : Hp} (hw : g_X4_layFirst_L108 x0 x1 Q K108 l2 h) : Wx G X h0 (QV Q) h 108 [some (rV x0), some (rV x1), some (iV l2), none] [] := by
  refine Wx.start (fun EB => ?_)
  unfold g_X4_layFirst_L108 at hw
  refine x_iload_n HE 2 dX4_layFirst_108 rfl rfl ?_
  refine x_aload_n HE 0 dX4_layFirst_109 rfl rfl ?_
  refine x_gI HE dX4_layFirst_110 fd_X4_25 q1862 (Or.inl rfl) (Lay_X4.tag (f0.ext EB)) rfl ?_
  refine x_ic_ge HE 141 dX4_layFirst_113 (by decide) (fun c113 => ?_) (fun c113 => ?_)
  · have hw := hw.1 c113
    refine Wx.mask [true, true, false, true] (lo2 := [some (rV x0), some (rV x1), none, none]) rfl ?_
    exact w_X4_layFirst_141 HE hr f0 f1 hw
  · have hw := hw.2 c113
    refine x_aload_n HE 1 dX4_layFirst_116 rfl rfl ?_
    refine x_bipush HE dX4_layFirst_117 (by decide) ?_
    refine x_iconst HE dX4_layFirst_119 (by decide) ?_
    refine x_iload_n HE 2 dX4_layFirst_120 rfl rfl ?_
    obtain ⟨v121, hw⟩ := hw
    refine x_imul HE dX4_layFirst_121 v121 ?_
    obtain ⟨v122, hw⟩ := hw
    refine x_iadd HE dX4_layFirst_122 v122 ?_
    refine x_aload_n HE 0 dX4_layFirst_123 rfl rfl ?_
    refine x_gR HE dX4_layFirst_124 fd_X4_23 q1860 (Or.inl rfl) (Lay_X4.tag (f0.ext EB)) (Lay_X4_23 (f0.ext EB)).1 ?_
    refine x_bipush HE dX4_layFirst_127 (by decide) ?_
    refine x_iload_n HE 2 dX4_layFirst_129 rfl rfl ?_
    obtain ⟨v130, hw⟩ := hw
    refine x_imul HE dX4_layFirst_130 v130 ?_
    refine x_iconst HE dX4_layFirst_131 (by decide) ?_
    obtain ⟨v132, hw⟩ := hw
    refine x_iadd HE dX4_layFirst_132 v132 ?_
    obtain ⟨i133, hw⟩ := hw
    refine x_iald HE dX4_layFirst_133 (t := 1) (by decide) ((Lay_X4_23 (f0.ext EB)).2.1) (ix_of ((Lay_X4_23 (f0.ext EB)).2.2) i133) rfl ?_
    obtain ⟨i134, hw⟩ := hw
    refine x_iast HE dX4_layFirst_134 (EB.tag f1.1 (by decide)) (ix_of (EB.len (by rw [f1.1]; decide) f1.2) i134) (fun m134 em134 E134 => ?_)
    have hw := hw m134 em134
    obtain ⟨v135, hw⟩ := hw
    refine x_iincN HE (fun y135 => [some (rV x0), some (rV x1), some (iV y135), none]) dX4_layFirst_135 rfl v135 (Nat.le_of_ble_eq_true rfl) (fun _ => rfl) (fun y135 ey135 => ?_)
    have hw := hw y135 ey135
    refine x_goto HE 108 dX4_layFirst_138 (by decide) ?_
    exact hK108 _ _ hw
theorem wl_X4_layFirst_108 {G : GT} {X : ET} {h0 : Hp} {x0 x1 : Int} (HE : XE G X cX4_layFirst 4 RX4 2 44 h0) (hr : XR X none) (f0 : Lay_X4 h0 x0) (f1 : (hT h0 x1 = 1 ∧ hL h0 x1 = 108)) {Q : Hp → Prop} {l2 : Int} {h : Hp} (hw : Lp1 (g_X4_layFirst_L108 x0 x1 Q) l2 h) : Wx G X h0 (QV Q) h 108 [some (rV x0), some (rV x1), some (iV l2), none] [] := by
  obtain ⟨n, hw⟩ := hw
  induction n generalizing l2 h with
  | zero => exact hw.elim
  | succ n ih => exact w_X4_layFirst_108 HE hr f0 f1 (fun _ _ hk => ih hk) hw
def g_X4_layFirst_b106 (x0 x1 : Int) (Q : Hp → Prop) (h : Hp) : Prop :=
  Lp1 (g_X4_layFirst_L108 x0 x1 Q) 0 h
theorem w_X4_layFirst_106 {G : GT} {X : ET} {h0 : Hp} {x0 x1 : Int} (HE : XE G X cX4_layFirst 4 RX4 2 44 h0) (hr : XR X none) (f0 : Lay_X4 h0 x0) (f1 : (hT h0 x1 = 1 ∧ hL h0 x1 = 108)) {Q : Hp → Prop} {h : Hp} (hw : g_X4_layFirst_b106 x0 x1 Q  h) : Wx G X h0 (QV Q) h 106 [some (rV x0), some (rV x1), none, none] [] := by
  refine Wx.start (fun EB => ?_)
  unfold g_X4_layFirst_b106 at hw
  refine x_iconst HE dX4_layFirst_106 (by decide) ?_
  refine x_istore_n HE 2 (lo' := [some (rV x0), some (rV x1), some (iV 0), none]) dX4_layFirst_107 rfl (Nat.le_of_ble_eq_true rfl) rfl ?_
  exact wl_X4_layFirst_108 HE hr f0 f1 hw
def g_X4_layFirst_L20 (x0 x1 : Int) (Q : Hp → Prop) (K20 : Int → Hp → Prop) (l2 : Int) (h : Hp) : Prop :=
  (((hA h (x0 + 3) 5) ≤ l2) → (g_X4_layFirst_b106 x0 x1 Q h)) ∧ ((l2 < (hA h (x0 + 3) 5)) → ((i32 (8 * l2)) ∧ ((i32 (12 + (8 * l2))) ∧ (∀ y37 : Int, y37 = (12 + (8 * l2)) → ((i32 (y37 + 1)) ∧ (g_X4_man x0 l2 3 (fun r45 m45 => Ext h m45 → (((0 : Int) ≤ (y37 + 1) ∧ (y37 + 1) < 108) ∧ (∀ m48 : Hp, m48 = setA m45 x1 (y37 + 1) r45 → ((i32 (y37 + 2)) ∧ (g_X4_man x0 l2 5 (fun r56 m56 => Ext m48 m56 → (((0 : Int) ≤ (y37 + 2) ∧ (y37 + 2) < 108) ∧ (∀ m59 : Hp, m59 = setA m56 x1 (y37 + 2) r56 → ((i32 (y37 + 3)) ∧ (g_X4_saysFirst x0 l2 (fun r66 m66 => Ext m59 m66 → (((0 : Int) ≤ (y37 + 3) ∧ (y37 + 3) < 108) ∧ (∀ m69 : Hp, m69 = setA m66 x1 (y37 + 3) r66 → ((i32 (y37 + 4)) ∧ (((0 : Int) ≤ (y37 + 4) ∧ (y37 + 4) < 108) ∧ (∀ m76 : Hp, m76 = setA m69 x1 (y37 + 4) (-2) → ((i32 (y37 + 5)) ∧ (((0 : Int) ≤ (y37 + 5) ∧ (y37 + 5) < 108) ∧ (∀ m83 : Hp, m83 = setA m76 x1 (y37 + 5) (-2) → ((i32 (y37 + 6)) ∧ (((0 : Int) ≤ (y37 + 6) ∧ (y37 + 6) < 108) ∧ (∀ m91 : Hp, m91 = setA m83 x1 (y37 + 6) (-2) → ((i32 (y37 + 7)) ∧ (((0 : Int) ≤ (y37 + 7) ∧ (y37 + 7) < 108) ∧ (∀ m99 : Hp, m99 = setA m91 x1 (y37 + 7) (-2) → ((i32 (l2 + 1)) ∧ (∀ y100 : Int, y100 = l2 + 1 → (K20 y100 m99)))))))))))))))))) m59))))) m48))))) h))))))
theorem w_X4_layFirst_20 {G : GT} {X : ET} {h0 : Hp} {x0 x1 : Int} (HE : XE G X cX4_layFirst 4 RX4 2 44 h0) (hr : XR X none) (f0 : Lay_X4 h0 x0) (f1 : (hT h0 x1 = 1 ∧ hL h0 x1 = 108)) {Q : Hp → Prop} {K20 : Int → Hp → Prop} (hK20 : ∀ (l2 : Int) (h : Hp), K20 l2 h → Wx G X h0 (QV Q) h 20 [some (rV x0), some (rV x1), some (iV l2), none] []) {l2 : Int} {h : Hp} (hw : g_X4_layFirst_L20 x0 x1 Q K20 l2 h) : Wx G X h0 (QV Q) h 20 [some (rV x0), some (rV x1), some (iV l2), none] [] := by
  refine Wx.start (fun EB => ?_)
  unfold g_X4_layFirst_L20 at hw
  refine x_iload_n HE 2 dX4_layFirst_20 rfl rfl ?_
  refine x_aload_n HE 0 dX4_layFirst_21 rfl rfl ?_
  refine x_gR HE dX4_layFirst_22 fd_X4_15 q1852 (Or.inl rfl) (Lay_X4.tag (f0.ext EB)) (Lay_X4_15 (f0.ext EB)).1 ?_
  refine x_iconst HE dX4_layFirst_25 (by decide) ?_
  refine x_iald HE dX4_layFirst_26 (t := 1) (by decide) ((Lay_X4_15 (f0.ext EB)).2.1) (ix_of ((Lay_X4_15 (f0.ext EB)).2.2) (by decide)) rfl ?_
  refine x_ic_ge HE 106 dX4_layFirst_27 (by decide) (fun c27 => ?_) (fun c27 => ?_)
  · have hw := hw.1 c27
    refine Wx.mask [true, true, false, true] (lo2 := [some (rV x0), some (rV x1), none, none]) rfl ?_
    exact w_X4_layFirst_106 HE hr f0 f1 hw
  · have hw := hw.2 c27
    refine x_bipush HE dX4_layFirst_30 (by decide) ?_
    refine x_bipush HE dX4_layFirst_32 (by decide) ?_
    refine x_iload_n HE 2 dX4_layFirst_34 rfl rfl ?_
    obtain ⟨v35, hw⟩ := hw
    refine x_imul HE dX4_layFirst_35 v35 ?_
    obtain ⟨v36, hw⟩ := hw
    refine x_iadd HE dX4_layFirst_36 v36 ?_
    refine x_istore_nN HE 3 (fun y37 => [some (rV x0), some (rV x1), some (iV l2), some (iV y37)]) dX4_layFirst_37 rfl (Nat.le_of_ble_eq_true rfl) (fun _ => rfl) (fun y37 ey37 => ?_)
    have hw := hw y37 ey37
    refine x_aload_n HE 1 dX4_layFirst_38 rfl rfl ?_
    refine x_iload_n HE 3 dX4_layFirst_39 rfl rfl ?_
    refine x_iconst HE dX4_layFirst_40 (by decide) ?_
    obtain ⟨v41, hw⟩ := hw
    refine x_iadd HE dX4_layFirst_41 v41 ?_
    refine x_aload_n HE 0 dX4_layFirst_42 rfl rfl ?_
    refine x_iload_n HE 2 dX4_layFirst_43 rfl rfl ?_
    refine x_iconst HE dX4_layFirst_44 (by decide) ?_
    refine x_callV HE dX4_layFirst_45 rfl (fun l => k_X4_man (f0.ext EB) l hw) (As := [iV l2, iV 3]) (rest := [iV (y37 + 1), rV x1]) rfl xc10 (Lay_X4.tag (f0.ext EB)) (lw_V q2124 q2126 qs82 q129 q2127) hy_X4_man rfl rfl (Nat.le_of_ble_eq_true rfl) (Nat.le_of_ble_eq_true rfl) (Nat.le_of_ble_eq_true rfl) (kkI (fun r45 m45 E45 hw => ?_))
    have hw := hw E45
    obtain ⟨i48, hw⟩ := hw
    refine x_iast HE dX4_layFirst_48 ((EB.tr E45).tag f1.1 (by decide)) (ix_of ((EB.tr E45).len (by rw [f1.1]; decide) f1.2) i48) (fun m48 em48 E48 => ?_)
    have hw := hw m48 em48
    refine x_aload_n HE 1 dX4_layFirst_49 rfl rfl ?_
    refine x_iload_n HE 3 dX4_layFirst_50 rfl rfl ?_
    refine x_iconst HE dX4_layFirst_51 (by decide) ?_
    obtain ⟨v52, hw⟩ := hw
    refine x_iadd HE dX4_layFirst_52 v52 ?_
    refine x_aload_n HE 0 dX4_layFirst_53 rfl rfl ?_
    refine x_iload_n HE 2 dX4_layFirst_54 rfl rfl ?_
    refine x_iconst HE dX4_layFirst_55 (by decide) ?_
    refine x_callV HE dX4_layFirst_56 rfl (fun l => k_X4_man (f0.ext (EB.tr (E45.tr E48))) l hw) (As := [iV l2, iV 5]) (rest := [iV (y37 + 2), rV x1]) rfl xc10 (Lay_X4.tag (f0.ext (EB.tr (E45.tr E48)))) (lw_V q2124 q2126 qs82 q129 q2127) hy_X4_man rfl rfl (Nat.le_of_ble_eq_true rfl) (Nat.le_of_ble_eq_true rfl) (Nat.le_of_ble_eq_true rfl) (kkI (fun r56 m56 E56 hw => ?_))
    have hw := hw E56
    obtain ⟨i59, hw⟩ := hw
    refine x_iast HE dX4_layFirst_59 ((EB.tr (E45.tr (E48.tr E56))).tag f1.1 (by decide)) (ix_of ((EB.tr (E45.tr (E48.tr E56))).len (by rw [f1.1]; decide) f1.2) i59) (fun m59 em59 E59 => ?_)
    have hw := hw m59 em59
    refine x_aload_n HE 1 dX4_layFirst_60 rfl rfl ?_
    refine x_iload_n HE 3 dX4_layFirst_61 rfl rfl ?_
    refine x_iconst HE dX4_layFirst_62 (by decide) ?_
    obtain ⟨v63, hw⟩ := hw
    refine x_iadd HE dX4_layFirst_63 v63 ?_
    refine x_aload_n HE 0 dX4_layFirst_64 rfl rfl ?_
    refine x_iload_n HE 2 dX4_layFirst_65 rfl rfl ?_
    refine x_callV HE dX4_layFirst_66 rfl (fun l => k_X4_saysFirst (f0.ext (EB.tr (E45.tr (E48.tr (E56.tr E59))))) l hw) (As := [iV l2]) (rest := [iV (y37 + 3), rV x1]) rfl xc10 (Lay_X4.tag (f0.ext (EB.tr (E45.tr (E48.tr (E56.tr E59)))))) (lw_V q2128 q2130 qs83 q129 q2131) hy_X4_saysFirst rfl rfl (Nat.le_of_ble_eq_true rfl) (Nat.le_of_ble_eq_true rfl) (Nat.le_of_ble_eq_true rfl) (kkI (fun r66 m66 E66 hw => ?_))
    have hw := hw E66
    obtain ⟨i69, hw⟩ := hw
    refine x_iast HE dX4_layFirst_69 ((EB.tr (E45.tr (E48.tr (E56.tr (E59.tr E66))))).tag f1.1 (by decide)) (ix_of ((EB.tr (E45.tr (E48.tr (E56.tr (E59.tr E66))))).len (by rw [f1.1]; decide) f1.2) i69) (fun m69 em69 E69 => ?_)
    have hw := hw m69 em69
    refine x_aload_n HE 1 dX4_layFirst_70 rfl rfl ?_
    refine x_iload_n HE 3 dX4_layFirst_71 rfl rfl ?_
    refine x_iconst HE dX4_layFirst_72 (by decide) ?_
    obtain ⟨v73, hw⟩ := hw
    refine x_iadd HE dX4_layFirst_73 v73 ?_
    refine x_bipush HE dX4_layFirst_74 (by decide) ?_
    obtain ⟨i76, hw⟩ := hw
    refine x_iast HE dX4_layFirst_76 ((EB.tr (E45.tr (E48.tr (E56.tr (E59.tr (E66.tr E69)))))).tag f1.1 (by decide)) (ix_of ((EB.tr (E45.tr (E48.tr (E56.tr (E59.tr (E66.tr E69)))))).len (by rw [f1.1]; decide) f1.2) i76) (fun m76 em76 E76 => ?_)
    have hw := hw m76 em76
    refine x_aload_n HE 1 dX4_layFirst_77 rfl rfl ?_
    refine x_iload_n HE 3 dX4_layFirst_78 rfl rfl ?_
    refine x_iconst HE dX4_layFirst_79 (by decide) ?_
    obtain ⟨v80, hw⟩ := hw
    refine x_iadd HE dX4_layFirst_80 v80 ?_
    refine x_bipush HE dX4_layFirst_81 (by decide) ?_
    obtain ⟨i83, hw⟩ := hw
    refine x_iast HE dX4_layFirst_83 ((EB.tr (E45.tr (E48.tr (E56.tr (E59.tr (E66.tr (E69.tr E76))))))).tag f1.1 (by decide)) (ix_of ((EB.tr (E45.tr (E48.tr (E56.tr (E59.tr (E66.tr (E69.tr E76))))))).len (by rw [f1.1]; decide) f1.2) i83) (fun m83 em83 E83 => ?_)
    have hw := hw m83 em83
    refine x_aload_n HE 1 dX4_layFirst_84 rfl rfl ?_
    refine x_iload_n HE 3 dX4_layFirst_85 rfl rfl ?_
    refine x_bipush HE dX4_layFirst_86 (by decide) ?_
    obtain ⟨v88, hw⟩ := hw
    refine x_iadd HE dX4_layFirst_88 v88 ?_
    refine x_bipush HE dX4_layFirst_89 (by decide) ?_
    obtain ⟨i91, hw⟩ := hw
    refine x_iast HE dX4_layFirst_91 ((EB.tr (E45.tr (E48.tr (E56.tr (E59.tr (E66.tr (E69.tr (E76.tr E83)))))))).tag f1.1 (by decide)) (ix_of ((EB.tr (E45.tr (E48.tr (E56.tr (E59.tr (E66.tr (E69.tr (E76.tr E83)))))))).len (by rw [f1.1]; decide) f1.2) i91) (fun m91 em91 E91 => ?_)
    have hw := hw m91 em91
    refine x_aload_n HE 1 dX4_layFirst_92 rfl rfl ?_
    refine x_iload_n HE 3 dX4_layFirst_93 rfl rfl ?_
    refine x_bipush HE dX4_layFirst_94 (by decide) ?_
    obtain ⟨v96, hw⟩ := hw
    refine x_iadd HE dX4_layFirst_96 v96 ?_
    refine x_bipush HE dX4_layFirst_97 (by decide) ?_
    obtain ⟨i99, hw⟩ := hw
    refine x_iast HE dX4_layFirst_99 ((EB.tr (E45.tr (E48.tr (E56.tr (E59.tr (E66.tr (E69.tr (E76.tr (E83.tr E91))))))))).tag f1.1 (by decide)) (ix_of ((EB.tr (E45.tr (E48.tr (E56.tr (E59.tr (E66.tr (E69.tr (E76.tr (E83.tr E91))))))))).len (by rw [f1.1]; decide) f1.2) i99) (fun m99 em99 E99 => ?_)
    have hw := hw m99 em99
    obtain ⟨v100, hw⟩ := hw
    refine x_iincN HE (fun y100 => [some (rV x0), some (rV x1), some (iV y100), some (iV y37)]) dX4_layFirst_100 rfl v100 (Nat.le_of_ble_eq_true rfl) (fun _ => rfl) (fun y100 ey100 => ?_)
    have hw := hw y100 ey100
    refine x_goto HE 20 dX4_layFirst_103 (by decide) ?_
    refine Wx.mask [true, true, true, false] (lo2 := [some (rV x0), some (rV x1), some (iV y100), none]) rfl ?_
    exact hK20 _ _ hw
theorem wl_X4_layFirst_20 {G : GT} {X : ET} {h0 : Hp} {x0 x1 : Int} (HE : XE G X cX4_layFirst 4 RX4 2 44 h0) (hr : XR X none) (f0 : Lay_X4 h0 x0) (f1 : (hT h0 x1 = 1 ∧ hL h0 x1 = 108)) {Q : Hp → Prop} {l2 : Int} {h : Hp} (hw : Lp1 (g_X4_layFirst_L20 x0 x1 Q) l2 h) : Wx G X h0 (QV Q) h 20 [some (rV x0), some (rV x1), some (iV l2), none] [] := by
  obtain ⟨n, hw⟩ := hw
  induction n generalizing l2 h with
  | zero => exact hw.elim
  | succ n ih => exact w_X4_layFirst_20 HE hr f0 f1 (fun _ _ hk => ih hk) hw
def g_X4_layFirst_b18 (x0 x1 : Int) (Q : Hp → Prop) (h : Hp) : Prop :=
  Lp1 (g_X4_layFirst_L20 x0 x1 Q) 0 h
theorem w_X4_layFirst_18 {G : GT} {X : ET} {h0 : Hp} {x0 x1 : Int} (HE : XE G X cX4_layFirst 4 RX4 2 44 h0) (hr : XR X none) (f0 : Lay_X4 h0 x0) (f1 : (hT h0 x1 = 1 ∧ hL h0 x1 = 108)) {Q : Hp → Prop} {h : Hp} (hw : g_X4_layFirst_b18 x0 x1 Q  h) : Wx G X h0 (QV Q) h 18 [some (rV x0), some (rV x1), none, none] [] := by
  refine Wx.start (fun EB => ?_)
  unfold g_X4_layFirst_b18 at hw
  refine x_iconst HE dX4_layFirst_18 (by decide) ?_
  refine x_istore_n HE 2 (lo' := [some (rV x0), some (rV x1), some (iV 0), none]) dX4_layFirst_19 rfl (Nat.le_of_ble_eq_true rfl) rfl ?_
  exact wl_X4_layFirst_20 HE hr f0 f1 hw
def g_X4_layFirst_L2 (x0 x1 : Int) (Q : Hp → Prop) (K2 : Int → Hp → Prop) (l2 : Int) (h : Hp) : Prop :=
  ((108 ≤ l2) → (g_X4_layFirst_b18 x0 x1 Q h)) ∧ ((l2 < 108) → (((0 : Int) ≤ l2 ∧ l2 < 108) ∧ (∀ m11 : Hp, m11 = setA h x1 l2 0 → ((i32 (l2 + 1)) ∧ (∀ y12 : Int, y12 = l2 + 1 → (K2 y12 m11))))))
theorem w_X4_layFirst_2 {G : GT} {X : ET} {h0 : Hp} {x0 x1 : Int} (HE : XE G X cX4_layFirst 4 RX4 2 44 h0) (hr : XR X none) (f0 : Lay_X4 h0 x0) (f1 : (hT h0 x1 = 1 ∧ hL h0 x1 = 108)) {Q : Hp → Prop} {K2 : Int → Hp → Prop} (hK2 : ∀ (l2 : Int) (h : Hp), K2 l2 h → Wx G X h0 (QV Q) h 2 [some (rV x0), some (rV x1), some (iV l2), none] []) {l2 : Int} {h : Hp} (hw : g_X4_layFirst_L2 x0 x1 Q K2 l2 h) : Wx G X h0 (QV Q) h 2 [some (rV x0), some (rV x1), some (iV l2), none] [] := by
  refine Wx.start (fun EB => ?_)
  unfold g_X4_layFirst_L2 at hw
  refine x_iload_n HE 2 dX4_layFirst_2 rfl rfl ?_
  refine x_bipush HE dX4_layFirst_3 (by decide) ?_
  refine x_ic_ge HE 18 dX4_layFirst_5 (by decide) (fun c5 => ?_) (fun c5 => ?_)
  · have hw := hw.1 c5
    refine Wx.mask [true, true, false, true] (lo2 := [some (rV x0), some (rV x1), none, none]) rfl ?_
    exact w_X4_layFirst_18 HE hr f0 f1 hw
  · have hw := hw.2 c5
    refine x_aload_n HE 1 dX4_layFirst_8 rfl rfl ?_
    refine x_iload_n HE 2 dX4_layFirst_9 rfl rfl ?_
    refine x_iconst HE dX4_layFirst_10 (by decide) ?_
    obtain ⟨i11, hw⟩ := hw
    refine x_iast HE dX4_layFirst_11 (EB.tag f1.1 (by decide)) (ix_of (EB.len (by rw [f1.1]; decide) f1.2) i11) (fun m11 em11 E11 => ?_)
    have hw := hw m11 em11
    obtain ⟨v12, hw⟩ := hw
    refine x_iincN HE (fun y12 => [some (rV x0), some (rV x1), some (iV y12), none]) dX4_layFirst_12 rfl v12 (Nat.le_of_ble_eq_true rfl) (fun _ => rfl) (fun y12 ey12 => ?_)
    have hw := hw y12 ey12
    refine x_goto HE 2 dX4_layFirst_15 (by decide) ?_
    exact hK2 _ _ hw
theorem wl_X4_layFirst_2 {G : GT} {X : ET} {h0 : Hp} {x0 x1 : Int} (HE : XE G X cX4_layFirst 4 RX4 2 44 h0) (hr : XR X none) (f0 : Lay_X4 h0 x0) (f1 : (hT h0 x1 = 1 ∧ hL h0 x1 = 108)) {Q : Hp → Prop} {l2 : Int} {h : Hp} (hw : Lp1 (g_X4_layFirst_L2 x0 x1 Q) l2 h) : Wx G X h0 (QV Q) h 2 [some (rV x0), some (rV x1), some (iV l2), none] [] := by
  obtain ⟨n, hw⟩ := hw
  induction n generalizing l2 h with
  | zero => exact hw.elim
  | succ n ih => exact w_X4_layFirst_2 HE hr f0 f1 (fun _ _ hk => ih hk) hw
def g_X4_layFirst (x0 x1 : Int) (Q : Hp → Prop) (h : Hp) : Prop :=
  Lp1 (g_X4_layFirst_L2 x0 x1 Q) 0 h
theorem w_X4_layFirst_0 {G : GT} {X : ET} {h0 : Hp} {x0 x1 : Int} (HE : XE G X cX4_layFirst 4 RX4 2 44 h0) (hr : XR X none) (f0 : Lay_X4 h0 x0) (f1 : (hT h0 x1 = 1 ∧ hL h0 x1 = 108)) {Q : Hp → Prop} {h : Hp} (hw : g_X4_layFirst x0 x1 Q h) : Wx G X h0 (QV Q) h 0 [some (rV x0), some (rV x1), none, none] [] := by
  refine Wx.start (fun EB => ?_)
  unfold g_X4_layFirst at hw
  refine x_iconst HE dX4_layFirst_0 (by decide) ?_
  refine x_istore_n HE 2 (lo' := [some (rV x0), some (rV x1), some (iV 0), none]) dX4_layFirst_1 rfl (Nat.le_of_ble_eq_true rfl) rfl ?_
  exact wl_X4_layFirst_2 HE hr f0 f1 hw
theorem k_X4_layFirst {G : GT} {x0 x1 : Int} {Q : Hp → Prop} {h : Hp} (f0 : Lay_X4 h x0) (f1 : (hT h x1 = 1 ∧ hL h x1 = 108)) (l : Launch) (hw : g_X4_layFirst x0 x1 Q h) : XM G l yX4_layFirst cX4_layFirst 4 none 2 44 [rV x0, rV x1] (QV Q) h :=
  XM.of (by decide) (Nat.le_of_ble_eq_true rfl) (fun X HE hr hn => w_X4_layFirst_0 HE hr f0 f1 hw)
def g_X4_house_b180 (x0 x1 : Int) (Q : Int → Hp → Prop) (h : Hp) : Prop :=
  (((hF h x0 13) = 0) → (g_X4_copy (x0 + 4) 0 (x0 + 3) 0 347 (fun m206 => Ext h m206 → (∀ m211 : Hp, m211 = setF m206 x0 14 1 → (∀ m216 : Hp, m216 = setF m211 x0 21 0 → (∀ m221 : Hp, m221 = setF m216 x0 22 0 → (g_X4_asTold x0 (fun m225 => Ext m221 m225 → (g_X4_layFirst x0 (x0 + 5) (fun m233 => Ext m225 m233 → (Q (hA m233 (x0 + 3) 5) m233)) m225)) m221))))) h)) ∧ (((hF h x0 13) ≠ 0) → (g_X4_no x0 4 (fun r189 m189 => Ext h m189 → (Q r189 m189)) h))
theorem w_X4_house_180 {G : GT} {X : ET} {h0 : Hp} {x0 x1 : Int} (HE : XE G X cX4_house 3 RX4 11 235 h0) (hr : XR X (some .int)) (f0 : Lay_X4 h0 x0) {Q : Int → Hp → Prop} {h : Hp} (hw : g_X4_house_b180 x0 x1 Q  h) : Wx G X h0 (QI Q) h 180 [some (rV x0), some (iV x1), none] [] := by
  refine Wx.start (fun EB => ?_)
  unfold g_X4_house_b180 at hw
  refine x_aload_n HE 0 dX4_house_180 rfl rfl ?_
  refine x_gI HE dX4_house_181 fd_X4_13 q1850 (Or.inl rfl) (Lay_X4.tag (f0.ext EB)) rfl ?_
  refine x_if_eq HE 193 dX4_house_184 (by decide) (fun c184 => ?_) (fun c184 => ?_)
  · have hw := hw.1 c184
    refine x_aload_n HE 0 dX4_house_193 rfl rfl ?_
    refine x_gR HE dX4_house_194 fd_X4_16 q1853 (Or.inl rfl) (Lay_X4.tag (f0.ext EB)) (Lay_X4_16 (f0.ext EB)).1 ?_
    refine x_iconst HE dX4_house_197 (by decide) ?_
    refine x_aload_n HE 0 dX4_house_198 rfl rfl ?_
    refine x_gR HE dX4_house_199 fd_X4_15 q1852 (Or.inl rfl) (Lay_X4.tag (f0.ext EB)) (Lay_X4_15 (f0.ext EB)).1 ?_
    refine x_iconst HE dX4_house_202 (by decide) ?_
    refine x_sipush HE dX4_house_203 (by decide) ?_
    refine x_callS HE dX4_house_206 rfl (fun l => k_X4_copy  l hw) (As := [rV (x0 + 4), iV 0, rV (x0 + 3), iV 0, iV 347]) (rest := []) rfl (lw_S q2113 q2114 q129 q2115) hy_X4_copy.2 rfl rfl (Nat.le_of_ble_eq_true rfl) (Nat.le_of_ble_eq_true rfl) (Nat.le_of_ble_eq_true rfl) (kkV (fun m206 E206 hw => ?_))
    have hw := hw E206
    refine x_aload_n HE 0 dX4_house_209 rfl rfl ?_
    refine x_iconst HE dX4_house_210 (by decide) ?_
    refine x_pI HE dX4_house_211 fd_X4_14 q1851 (Or.inl rfl) (Or.inl rfl) (nf_bool (by decide)) (Lay_X4.tag (f0.ext (EB.tr E206))) (nro (by decide)) (Or.inl nf_X4_14) (fun m211 em211 E211 => ?_)
    have hw := hw m211 em211
    refine x_aload_n HE 0 dX4_house_214 rfl rfl ?_
    refine x_iconst HE dX4_house_215 (by decide) ?_
    refine x_pI HE dX4_house_216 fd_X4_21 q1858 (Or.inl rfl) (Or.inl rfl) (nf_int _) (Lay_X4.tag (f0.ext (EB.tr (E206.tr E211)))) (nro (by decide)) (Or.inl nf_X4_21) (fun m216 em216 E216 => ?_)
    have hw := hw m216 em216
    refine x_aload_n HE 0 dX4_house_219 rfl rfl ?_
    refine x_iconst HE dX4_house_220 (by decide) ?_
    refine x_pI HE dX4_house_221 fd_X4_22 q1859 (Or.inl rfl) (Or.inl rfl) (nf_int _) (Lay_X4.tag (f0.ext (EB.tr (E206.tr (E211.tr E216))))) (nro (by decide)) (Or.inl nf_X4_22) (fun m221 em221 E221 => ?_)
    have hw := hw m221 em221
    refine x_aload_n HE 0 dX4_house_224 rfl rfl ?_
    refine x_callV HE dX4_house_225 rfl (fun l => k_X4_asTold (f0.ext (EB.tr (E206.tr (E211.tr (E216.tr E221))))) l hw) (As := []) (rest := []) rfl xc10 (Lay_X4.tag (f0.ext (EB.tr (E206.tr (E211.tr (E216.tr E221)))))) (lw_V q2116 q2118 qs80 q129 q2119) hy_X4_asTold rfl rfl (Nat.le_of_ble_eq_true rfl) (Nat.le_of_ble_eq_true rfl) (Nat.le_of_ble_eq_true rfl) (kkV (fun m225 E225 hw => ?_))
    have hw := hw E225
    refine x_aload_n HE 0 dX4_house_228 rfl rfl ?_
    refine x_aload_n HE 0 dX4_house_229 rfl rfl ?_
    refine x_gR HE dX4_house_230 fd_X4_17 q1854 (Or.inl rfl) (Lay_X4.tag (f0.ext (EB.tr (E206.tr (E211.tr (E216.tr (E221.tr E225))))))) (Lay_X4_17 (f0.ext (EB.tr (E206.tr (E211.tr (E216.tr (E221.tr E225))))))).1 ?_
    refine x_callV HE dX4_house_233 rfl (fun l => k_X4_layFirst (f0.ext (EB.tr (E206.tr (E211.tr (E216.tr (E221.tr E225)))))) ⟨(Lay_X4_17 (f0.ext (EB.tr (E206.tr (E211.tr (E216.tr (E221.tr E225))))))).2.1, (Lay_X4_17 (f0.ext (EB.tr (E206.tr (E211.tr (E216.tr (E221.tr E225))))))).2.2⟩ l hw) (As := [rV (x0 + 5)]) (rest := []) rfl xc10 (Lay_X4.tag (f0.ext (EB.tr (E206.tr (E211.tr (E216.tr (E221.tr E225))))))) (lw_V q2120 q2122 qs81 q129 q2123) hy_X4_layFirst rfl rfl (Nat.le_of_ble_eq_true rfl) (Nat.le_of_ble_eq_true rfl) (Nat.le_of_ble_eq_true rfl) (kkV (fun m233 E233 hw => ?_))
    have hw := hw E233
    refine x_aload_n HE 0 dX4_house_236 rfl rfl ?_
    refine x_gR HE dX4_house_237 fd_X4_15 q1852 (Or.inl rfl) (Lay_X4.tag (f0.ext (EB.tr (E206.tr (E211.tr (E216.tr (E221.tr (E225.tr E233)))))))) (Lay_X4_15 (f0.ext (EB.tr (E206.tr (E211.tr (E216.tr (E221.tr (E225.tr E233)))))))).1 ?_
    refine x_iconst HE dX4_house_240 (by decide) ?_
    refine x_iald HE dX4_house_241 (t := 1) (by decide) ((Lay_X4_15 (f0.ext (EB.tr (E206.tr (E211.tr (E216.tr (E221.tr (E225.tr E233)))))))).2.1) (ix_of ((Lay_X4_15 (f0.ext (EB.tr (E206.tr (E211.tr (E216.tr (E221.tr (E225.tr E233)))))))).2.2) (by decide)) rfl ?_
    exact x_iret HE hr dX4_house_242 hw
  · have hw := hw.2 c184
    refine x_aload_n HE 0 dX4_house_187 rfl rfl ?_
    refine x_iconst HE dX4_house_188 (by decide) ?_
    refine x_callV HE dX4_house_189 rfl (fun l => k_X4_no (f0.ext EB) l hw) (As := [iV 4]) (rest := []) rfl xc10 (Lay_X4.tag (f0.ext EB)) (lw_V q1962 q1964 qs56 q129 q1965) hy_X4_no rfl rfl (Nat.le_of_ble_eq_true rfl) (Nat.le_of_ble_eq_true rfl) (Nat.le_of_ble_eq_true rfl) (kkI (fun r189 m189 E189 hw => ?_))
    have hw := hw E189
    exact x_iret HE hr dX4_house_192 hw
def g_X4_house_b170 (x0 x1 : Int) (Q : Int → Hp → Prop) (h : Hp) : Prop :=
  g_X4_wrong x0 6 (hF h x0 4) (fun m177 => Ext h m177 → (g_X4_house_b180 x0 x1 Q m177)) h
theorem w_X4_house_170 {G : GT} {X : ET} {h0 : Hp} {x0 x1 : Int} (HE : XE G X cX4_house 3 RX4 11 235 h0) (hr : XR X (some .int)) (f0 : Lay_X4 h0 x0) {Q : Int → Hp → Prop} {h : Hp} (hw : g_X4_house_b170 x0 x1 Q  h) : Wx G X h0 (QI Q) h 170 [some (rV x0), some (iV x1), none] [] := by
  refine Wx.start (fun EB => ?_)
  unfold g_X4_house_b170 at hw
  refine x_aload_n HE 0 dX4_house_170 rfl rfl ?_
  refine x_bipush HE dX4_house_171 (by decide) ?_
  refine x_aload_n HE 0 dX4_house_173 rfl rfl ?_
  refine x_gI HE dX4_house_174 fd_X4_4 q1841 (Or.inl rfl) (Lay_X4.tag (f0.ext EB)) rfl ?_
  refine x_callV HE dX4_house_177 rfl (fun l => k_X4_wrong (f0.ext EB) l hw) (As := [iV 6, iV (hF h x0 4)]) (rest := []) rfl xc10 (Lay_X4.tag (f0.ext EB)) (lw_V q2012 q2014 qs62 q129 q2015) hy_X4_wrong rfl rfl (Nat.le_of_ble_eq_true rfl) (Nat.le_of_ble_eq_true rfl) (Nat.le_of_ble_eq_true rfl) (kkV (fun m177 E177 hw => ?_))
  have hw := hw E177
  exact w_X4_house_180 HE hr f0 hw
def g_X4_house_b127 (x0 x1 : Int) (Q : Int → Hp → Prop) (h : Hp) : Prop :=
  (((hF h x0 13) ≠ 0) → (g_X4_house_b180 x0 x1 Q h)) ∧ (((hF h x0 13) = 0) → ((((hA h (x0 + 4) 0) = 0) → (g_X4_house_b170 x0 x1 Q h)) ∧ (((hA h (x0 + 4) 0) ≠ 0) → ((((hA h (x0 + 4) 3) = 0) → (g_X4_house_b170 x0 x1 Q h)) ∧ (((hA h (x0 + 4) 3) ≠ 0) → ((((hA h (x0 + 4) 4) = 0) → (g_X4_house_b170 x0 x1 Q h)) ∧ (((hA h (x0 + 4) 4) ≠ 0) → ((((hA h (x0 + 4) 5) ≠ 0) → (g_X4_house_b180 x0 x1 Q h)) ∧ (((hA h (x0 + 4) 5) = 0) → (g_X4_house_b170 x0 x1 Q h))))))))))
theorem w_X4_house_127 {G : GT} {X : ET} {h0 : Hp} {x0 x1 : Int} (HE : XE G X cX4_house 3 RX4 11 235 h0) (hr : XR X (some .int)) (f0 : Lay_X4 h0 x0) {Q : Int → Hp → Prop} {h : Hp} (hw : g_X4_house_b127 x0 x1 Q  h) : Wx G X h0 (QI Q) h 127 [some (rV x0), some (iV x1), none] [] := by
  refine Wx.start (fun EB => ?_)
  unfold g_X4_house_b127 at hw
  refine x_aload_n HE 0 dX4_house_127 rfl rfl ?_
  refine x_gI HE dX4_house_128 fd_X4_13 q1850 (Or.inl rfl) (Lay_X4.tag (f0.ext EB)) rfl ?_
  refine x_if_ne HE 180 dX4_house_131 (by decide) (fun c131 => ?_) (fun c131 => ?_)
  · have hw := hw.1 c131
    exact w_X4_house_180 HE hr f0 hw
  · have hw := hw.2 c131
    refine x_aload_n HE 0 dX4_house_134 rfl rfl ?_
    refine x_gR HE dX4_house_135 fd_X4_16 q1853 (Or.inl rfl) (Lay_X4.tag (f0.ext EB)) (Lay_X4_16 (f0.ext EB)).1 ?_
    refine x_iconst HE dX4_house_138 (by decide) ?_
    refine x_iald HE dX4_house_139 (t := 1) (by decide) ((Lay_X4_16 (f0.ext EB)).2.1) (ix_of ((Lay_X4_16 (f0.ext EB)).2.2) (by decide)) rfl ?_
    refine x_if_eq HE 170 dX4_house_140 (by decide) (fun c140 => ?_) (fun c140 => ?_)
    · have hw := hw.1 c140
      exact w_X4_house_170 HE hr f0 hw
    · have hw := hw.2 c140
      refine x_aload_n HE 0 dX4_house_143 rfl rfl ?_
      refine x_gR HE dX4_house_144 fd_X4_16 q1853 (Or.inl rfl) (Lay_X4.tag (f0.ext EB)) (Lay_X4_16 (f0.ext EB)).1 ?_
      refine x_iconst HE dX4_house_147 (by decide) ?_
      refine x_iald HE dX4_house_148 (t := 1) (by decide) ((Lay_X4_16 (f0.ext EB)).2.1) (ix_of ((Lay_X4_16 (f0.ext EB)).2.2) (by decide)) rfl ?_
      refine x_if_eq HE 170 dX4_house_149 (by decide) (fun c149 => ?_) (fun c149 => ?_)
      · have hw := hw.1 c149
        exact w_X4_house_170 HE hr f0 hw
      · have hw := hw.2 c149
        refine x_aload_n HE 0 dX4_house_152 rfl rfl ?_
        refine x_gR HE dX4_house_153 fd_X4_16 q1853 (Or.inl rfl) (Lay_X4.tag (f0.ext EB)) (Lay_X4_16 (f0.ext EB)).1 ?_
        refine x_iconst HE dX4_house_156 (by decide) ?_
        refine x_iald HE dX4_house_157 (t := 1) (by decide) ((Lay_X4_16 (f0.ext EB)).2.1) (ix_of ((Lay_X4_16 (f0.ext EB)).2.2) (by decide)) rfl ?_
        refine x_if_eq HE 170 dX4_house_158 (by decide) (fun c158 => ?_) (fun c158 => ?_)
        · have hw := hw.1 c158
          exact w_X4_house_170 HE hr f0 hw
        · have hw := hw.2 c158
          refine x_aload_n HE 0 dX4_house_161 rfl rfl ?_
          refine x_gR HE dX4_house_162 fd_X4_16 q1853 (Or.inl rfl) (Lay_X4.tag (f0.ext EB)) (Lay_X4_16 (f0.ext EB)).1 ?_
          refine x_iconst HE dX4_house_165 (by decide) ?_
          refine x_iald HE dX4_house_166 (t := 1) (by decide) ((Lay_X4_16 (f0.ext EB)).2.1) (ix_of ((Lay_X4_16 (f0.ext EB)).2.2) (by decide)) rfl ?_
          refine x_if_ne HE 180 dX4_house_167 (by decide) (fun c167 => ?_) (fun c167 => ?_)
          · have hw := hw.1 c167
            exact w_X4_house_180 HE hr f0 hw
          · have hw := hw.2 c167
            exact w_X4_house_170 HE hr f0 hw
def g_X4_house_b104 (x0 x1 : Int) (Q : Int → Hp → Prop) (h : Hp) : Prop :=
  (((hF h x0 13) ≠ 0) → (g_X4_house_b127 x0 x1 Q h)) ∧ (((hF h x0 13) = 0) → ((((hF h x0 6) = 0) → (g_X4_house_b127 x0 x1 Q h)) ∧ (((hF h x0 6) ≠ 0) → (g_X4_wrong x0 1 (hF h x0 4) (fun m124 => Ext h m124 → (g_X4_house_b127 x0 x1 Q m124)) h))))
theorem w_X4_house_104 {G : GT} {X : ET} {h0 : Hp} {x0 x1 : Int} (HE : XE G X cX4_house 3 RX4 11 235 h0) (hr : XR X (some .int)) (f0 : Lay_X4 h0 x0) {Q : Int → Hp → Prop} {h : Hp} (hw : g_X4_house_b104 x0 x1 Q  h) : Wx G X h0 (QI Q) h 104 [some (rV x0), some (iV x1), none] [] := by
  refine Wx.start (fun EB => ?_)
  unfold g_X4_house_b104 at hw
  refine x_aload_n HE 0 dX4_house_104 rfl rfl ?_
  refine x_gI HE dX4_house_105 fd_X4_13 q1850 (Or.inl rfl) (Lay_X4.tag (f0.ext EB)) rfl ?_
  refine x_if_ne HE 127 dX4_house_108 (by decide) (fun c108 => ?_) (fun c108 => ?_)
  · have hw := hw.1 c108
    exact w_X4_house_127 HE hr f0 hw
  · have hw := hw.2 c108
    refine x_aload_n HE 0 dX4_house_111 rfl rfl ?_
    refine x_gI HE dX4_house_112 fd_X4_6 q1843 (Or.inl rfl) (Lay_X4.tag (f0.ext EB)) rfl ?_
    refine x_if_eq HE 127 dX4_house_115 (by decide) (fun c115 => ?_) (fun c115 => ?_)
    · have hw := hw.1 c115
      exact w_X4_house_127 HE hr f0 hw
    · have hw := hw.2 c115
      refine x_aload_n HE 0 dX4_house_118 rfl rfl ?_
      refine x_iconst HE dX4_house_119 (by decide) ?_
      refine x_aload_n HE 0 dX4_house_120 rfl rfl ?_
      refine x_gI HE dX4_house_121 fd_X4_4 q1841 (Or.inl rfl) (Lay_X4.tag (f0.ext EB)) rfl ?_
      refine x_callV HE dX4_house_124 rfl (fun l => k_X4_wrong (f0.ext EB) l hw) (As := [iV 1, iV (hF h x0 4)]) (rest := []) rfl xc10 (Lay_X4.tag (f0.ext EB)) (lw_V q2012 q2014 qs62 q129 q2015) hy_X4_wrong rfl rfl (Nat.le_of_ble_eq_true rfl) (Nat.le_of_ble_eq_true rfl) (Nat.le_of_ble_eq_true rfl) (kkV (fun m124 E124 hw => ?_))
      have hw := hw E124
      exact w_X4_house_127 HE hr f0 hw
def g_X4_house_L77 (x0 x1 : Int) (Q : Int → Hp → Prop) (K77 : Hp → Prop) (h : Hp) : Prop :=
  (((hF h x0 13) ≠ 0) → (g_X4_house_b104 x0 x1 Q h)) ∧ (((hF h x0 13) = 0) → ((((hF h x0 6) ≠ 59) → (g_X4_house_b104 x0 x1 Q h)) ∧ (((hF h x0 6) = 59) → (g_X4_nextToken x0 (fun m94 => Ext h m94 → (g_X4_readLine x0 (fun m98 => Ext m94 m98 → (K77 m98)) m94)) h))))
theorem w_X4_house_77 {G : GT} {X : ET} {h0 : Hp} {x0 x1 : Int} (HE : XE G X cX4_house 3 RX4 11 235 h0) (hr : XR X (some .int)) (f0 : Lay_X4 h0 x0) {Q : Int → Hp → Prop} {K77 : Hp → Prop} (hK77 : ∀ (h : Hp), K77  h → Wx G X h0 (QI Q) h 77 [some (rV x0), some (iV x1), none] []) {h : Hp} (hw : g_X4_house_L77 x0 x1 Q K77  h) : Wx G X h0 (QI Q) h 77 [some (rV x0), some (iV x1), none] [] := by
  refine Wx.start (fun EB => ?_)
  unfold g_X4_house_L77 at hw
  refine x_aload_n HE 0 dX4_house_77 rfl rfl ?_
  refine x_gI HE dX4_house_78 fd_X4_13 q1850 (Or.inl rfl) (Lay_X4.tag (f0.ext EB)) rfl ?_
  refine x_if_ne HE 104 dX4_house_81 (by decide) (fun c81 => ?_) (fun c81 => ?_)
  · have hw := hw.1 c81
    exact w_X4_house_104 HE hr f0 hw
  · have hw := hw.2 c81
    refine x_aload_n HE 0 dX4_house_84 rfl rfl ?_
    refine x_gI HE dX4_house_85 fd_X4_6 q1843 (Or.inl rfl) (Lay_X4.tag (f0.ext EB)) rfl ?_
    refine x_bipush HE dX4_house_88 (by decide) ?_
    refine x_ic_ne HE 104 dX4_house_90 (by decide) (fun c90 => ?_) (fun c90 => ?_)
    · have hw := hw.1 c90
      exact w_X4_house_104 HE hr f0 hw
    · have hw := hw.2 c90
      refine x_aload_n HE 0 dX4_house_93 rfl rfl ?_
      refine x_callV HE dX4_house_94 rfl (fun l => k_X4_nextToken (f0.ext EB) l hw) (As := []) (rest := []) rfl xc10 (Lay_X4.tag (f0.ext EB)) (lw_V q1966 q1968 qs57 q129 q1969) hy_X4_nextToken rfl rfl (Nat.le_of_ble_eq_true rfl) (Nat.le_of_ble_eq_true rfl) (Nat.le_of_ble_eq_true rfl) (kkV (fun m94 E94 hw => ?_))
      have hw := hw E94
      refine x_aload_n HE 0 dX4_house_97 rfl rfl ?_
      refine x_callV HE dX4_house_98 rfl (fun l => k_X4_readLine (f0.ext (EB.tr E94)) l hw) (As := []) (rest := []) rfl xc10 (Lay_X4.tag (f0.ext (EB.tr E94))) (lw_V q1980 q1982 qs59 q129 q1983) hy_X4_readLine rfl rfl (Nat.le_of_ble_eq_true rfl) (Nat.le_of_ble_eq_true rfl) (Nat.le_of_ble_eq_true rfl) (kkV (fun m98 E98 hw => ?_))
      have hw := hw E98
      refine x_goto HE 77 dX4_house_101 (by decide) ?_
      exact hK77 _ hw
theorem wl_X4_house_77 {G : GT} {X : ET} {h0 : Hp} {x0 x1 : Int} (HE : XE G X cX4_house 3 RX4 11 235 h0) (hr : XR X (some .int)) (f0 : Lay_X4 h0 x0) {Q : Int → Hp → Prop} {h : Hp} (hw : Lp0 (g_X4_house_L77 x0 x1 Q)  h) : Wx G X h0 (QI Q) h 77 [some (rV x0), some (iV x1), none] [] := by
  obtain ⟨n, hw⟩ := hw
  induction n generalizing  h with
  | zero => exact hw.elim
  | succ n ih => exact w_X4_house_77 HE hr f0 (fun _ hk => ih hk) hw
def g_X4_house_b59 (x0 x1 : Int) (Q : Int → Hp → Prop) (h : Hp) : Prop :=
  ∀ m61 : Hp, m61 = setF h x0 3 x1 → (∀ m66 : Hp, m66 = setF m61 x0 5 0 → (g_X4_nextToken x0 (fun m70 => Ext m66 m70 → (g_X4_readLine x0 (fun m74 => Ext m70 m74 → (Lp0 (g_X4_house_L77 x0 x1 Q) m74)) m70)) m66))
theorem w_X4_house_59 {G : GT} {X : ET} {h0 : Hp} {x0 x1 : Int} (HE : XE G X cX4_house 3 RX4 11 235 h0) (hr : XR X (some .int)) (f0 : Lay_X4 h0 x0) {Q : Int → Hp → Prop} {h : Hp} (hw : g_X4_house_b59 x0 x1 Q  h) : Wx G X h0 (QI Q) h 59 [some (rV x0), some (iV x1), none] [] := by
  refine Wx.start (fun EB => ?_)
  unfold g_X4_house_b59 at hw
  refine x_aload_n HE 0 dX4_house_59 rfl rfl ?_
  refine x_iload_n HE 1 dX4_house_60 rfl rfl ?_
  refine x_pI HE dX4_house_61 fd_X4_3 q1840 (Or.inl rfl) (Or.inl rfl) (nf_int _) (Lay_X4.tag (f0.ext EB)) (nro (by decide)) (Or.inl nf_X4_3) (fun m61 em61 E61 => ?_)
  have hw := hw m61 em61
  refine x_aload_n HE 0 dX4_house_64 rfl rfl ?_
  refine x_iconst HE dX4_house_65 (by decide) ?_
  refine x_pI HE dX4_house_66 fd_X4_5 q1842 (Or.inl rfl) (Or.inl rfl) (nf_int _) (Lay_X4.tag (f0.ext (EB.tr E61))) (nro (by decide)) (Or.inl nf_X4_5) (fun m66 em66 E66 => ?_)
  have hw := hw m66 em66
  refine x_aload_n HE 0 dX4_house_69 rfl rfl ?_
  refine x_callV HE dX4_house_70 rfl (fun l => k_X4_nextToken (f0.ext (EB.tr (E61.tr E66))) l hw) (As := []) (rest := []) rfl xc10 (Lay_X4.tag (f0.ext (EB.tr (E61.tr E66)))) (lw_V q1966 q1968 qs57 q129 q1969) hy_X4_nextToken rfl rfl (Nat.le_of_ble_eq_true rfl) (Nat.le_of_ble_eq_true rfl) (Nat.le_of_ble_eq_true rfl) (kkV (fun m70 E70 hw => ?_))
  have hw := hw E70
  refine x_aload_n HE 0 dX4_house_73 rfl rfl ?_
  refine x_callV HE dX4_house_74 rfl (fun l => k_X4_readLine (f0.ext (EB.tr (E61.tr (E66.tr E70)))) l hw) (As := []) (rest := []) rfl xc10 (Lay_X4.tag (f0.ext (EB.tr (E61.tr (E66.tr E70))))) (lw_V q1980 q1982 qs59 q129 q1983) hy_X4_readLine rfl rfl (Nat.le_of_ble_eq_true rfl) (Nat.le_of_ble_eq_true rfl) (Nat.le_of_ble_eq_true rfl) (kkV (fun m74 E74 hw => ?_))
  have hw := hw E74
  exact wl_X4_house_77 HE hr f0 hw
def g_X4_house_L39 (x0 x1 : Int) (Q : Int → Hp → Prop) (K39 : Int → Hp → Prop) (l2 : Int) (h : Hp) : Prop :=
  ((347 ≤ l2) → (g_X4_house_b59 x0 x1 Q h)) ∧ ((l2 < 347) → (((0 : Int) ≤ l2 ∧ l2 < 347) ∧ (∀ m52 : Hp, m52 = setA h (x0 + 4) l2 0 → ((i32 (l2 + 1)) ∧ (∀ y53 : Int, y53 = l2 + 1 → (K39 y53 m52))))))
theorem w_X4_house_39 {G : GT} {X : ET} {h0 : Hp} {x0 x1 : Int} (HE : XE G X cX4_house 3 RX4 11 235 h0) (hr : XR X (some .int)) (f0 : Lay_X4 h0 x0) {Q : Int → Hp → Prop} {K39 : Int → Hp → Prop} (hK39 : ∀ (l2 : Int) (h : Hp), K39 l2 h → Wx G X h0 (QI Q) h 39 [some (rV x0), some (iV x1), some (iV l2)] []) {l2 : Int} {h : Hp} (hw : g_X4_house_L39 x0 x1 Q K39 l2 h) : Wx G X h0 (QI Q) h 39 [some (rV x0), some (iV x1), some (iV l2)] [] := by
  refine Wx.start (fun EB => ?_)
  unfold g_X4_house_L39 at hw
  refine x_iload_n HE 2 dX4_house_39 rfl rfl ?_
  refine x_sipush HE dX4_house_40 (by decide) ?_
  refine x_ic_ge HE 59 dX4_house_43 (by decide) (fun c43 => ?_) (fun c43 => ?_)
  · have hw := hw.1 c43
    refine Wx.mask [true, true, false] (lo2 := [some (rV x0), some (iV x1), none]) rfl ?_
    exact w_X4_house_59 HE hr f0 hw
  · have hw := hw.2 c43
    refine x_aload_n HE 0 dX4_house_46 rfl rfl ?_
    refine x_gR HE dX4_house_47 fd_X4_16 q1853 (Or.inl rfl) (Lay_X4.tag (f0.ext EB)) (Lay_X4_16 (f0.ext EB)).1 ?_
    refine x_iload_n HE 2 dX4_house_50 rfl rfl ?_
    refine x_iconst HE dX4_house_51 (by decide) ?_
    obtain ⟨i52, hw⟩ := hw
    refine x_iast HE dX4_house_52 ((Lay_X4_16 (f0.ext EB)).2.1) (ix_of ((Lay_X4_16 (f0.ext EB)).2.2) i52) (fun m52 em52 E52 => ?_)
    have hw := hw m52 em52
    obtain ⟨v53, hw⟩ := hw
    refine x_iincN HE (fun y53 => [some (rV x0), some (iV x1), some (iV y53)]) dX4_house_53 rfl v53 (Nat.le_of_ble_eq_true rfl) (fun _ => rfl) (fun y53 ey53 => ?_)
    have hw := hw y53 ey53
    refine x_goto HE 39 dX4_house_56 (by decide) ?_
    exact hK39 _ _ hw
theorem wl_X4_house_39 {G : GT} {X : ET} {h0 : Hp} {x0 x1 : Int} (HE : XE G X cX4_house 3 RX4 11 235 h0) (hr : XR X (some .int)) (f0 : Lay_X4 h0 x0) {Q : Int → Hp → Prop} {l2 : Int} {h : Hp} (hw : Lp1 (g_X4_house_L39 x0 x1 Q) l2 h) : Wx G X h0 (QI Q) h 39 [some (rV x0), some (iV x1), some (iV l2)] [] := by
  obtain ⟨n, hw⟩ := hw
  induction n generalizing l2 h with
  | zero => exact hw.elim
  | succ n ih => exact w_X4_house_39 HE hr f0 (fun _ _ hk => ih hk) hw
def g_X4_house (x0 x1 : Int) (Q : Int → Hp → Prop) (h : Hp) : Prop :=
  g_X4_good x0 (fun m1 => Ext h m1 → (g_X4_within x1 0 (hF m1 x0 2) (fun r10 m10 => Ext m1 m10 → (((r10 ≠ 0) → (∀ m24 : Hp, m24 = setF m10 x0 2 0 → (∀ m29 : Hp, m29 = setF m24 x0 9 0 → (∀ m34 : Hp, m34 = setF m29 x0 13 0 → (Lp1 (g_X4_house_L39 x0 x1 Q) 0 m34))))) ∧ ((r10 = 0) → (g_X4_no x0 2 (fun r18 m18 => Ext m10 m18 → (Q r18 m18)) m10)))) m1)) h
theorem w_X4_house_0 {G : GT} {X : ET} {h0 : Hp} {x0 x1 : Int} (HE : XE G X cX4_house 3 RX4 11 235 h0) (hr : XR X (some .int)) (f0 : Lay_X4 h0 x0) {Q : Int → Hp → Prop} {h : Hp} (hw : g_X4_house x0 x1 Q h) : Wx G X h0 (QI Q) h 0 [some (rV x0), some (iV x1), none] [] := by
  refine Wx.start (fun EB => ?_)
  unfold g_X4_house at hw
  refine x_aload_n HE 0 dX4_house_0 rfl rfl ?_
  refine x_callV HE dX4_house_1 rfl (fun l => k_X4_good (f0.ext EB) l hw) (As := []) (rest := []) rfl xc10 (Lay_X4.tag (f0.ext EB)) (lw_V q1955 q1957 qs55 q129 q1958) hy_X4_good rfl rfl (Nat.le_of_ble_eq_true rfl) (Nat.le_of_ble_eq_true rfl) (Nat.le_of_ble_eq_true rfl) (kkV (fun m1 E1 hw => ?_))
  have hw := hw E1
  refine x_iload_n HE 1 dX4_house_4 rfl rfl ?_
  refine x_iconst HE dX4_house_5 (by decide) ?_
  refine x_aload_n HE 0 dX4_house_6 rfl rfl ?_
  refine x_gI HE dX4_house_7 fd_X4_2 q1839 (Or.inl rfl) (Lay_X4.tag (f0.ext (EB.tr E1))) rfl ?_
  refine x_callS HE dX4_house_10 rfl (fun l => k_X4_within  l hw) (As := [iV x1, iV 0, iV (hF m1 x0 2)]) (rest := []) rfl (lw_S q1959 q1960 q129 q1961) hy_X4_within.2 rfl rfl (Nat.le_of_ble_eq_true rfl) (Nat.le_of_ble_eq_true rfl) (Nat.le_of_ble_eq_true rfl) (kkI (fun r10 m10 E10 hw => ?_))
  have hw := hw E10
  refine x_if_ne HE 22 dX4_house_13 (by decide) (fun c13 => ?_) (fun c13 => ?_)
  · have hw := hw.1 c13
    refine x_aload_n HE 0 dX4_house_22 rfl rfl ?_
    refine x_iconst HE dX4_house_23 (by decide) ?_
    refine x_pI HE dX4_house_24 fd_X4_2 q1839 (Or.inl rfl) (Or.inl rfl) (nf_int _) (Lay_X4.tag (f0.ext (EB.tr (E1.tr E10)))) (nro (by decide)) (Or.inl nf_X4_2) (fun m24 em24 E24 => ?_)
    have hw := hw m24 em24
    refine x_aload_n HE 0 dX4_house_27 rfl rfl ?_
    refine x_iconst HE dX4_house_28 (by decide) ?_
    refine x_pI HE dX4_house_29 fd_X4_9 q1846 (Or.inl rfl) (Or.inl rfl) (nf_int _) (Lay_X4.tag (f0.ext (EB.tr (E1.tr (E10.tr E24))))) (nro (by decide)) (Or.inl nf_X4_9) (fun m29 em29 E29 => ?_)
    have hw := hw m29 em29
    refine x_aload_n HE 0 dX4_house_32 rfl rfl ?_
    refine x_iconst HE dX4_house_33 (by decide) ?_
    refine x_pI HE dX4_house_34 fd_X4_13 q1850 (Or.inl rfl) (Or.inl rfl) (nf_bool (by decide)) (Lay_X4.tag (f0.ext (EB.tr (E1.tr (E10.tr (E24.tr E29)))))) (nro (by decide)) (Or.inl nf_X4_13) (fun m34 em34 E34 => ?_)
    have hw := hw m34 em34
    refine x_iconst HE dX4_house_37 (by decide) ?_
    refine x_istore_n HE 2 (lo' := [some (rV x0), some (iV x1), some (iV 0)]) dX4_house_38 rfl (Nat.le_of_ble_eq_true rfl) rfl ?_
    exact wl_X4_house_39 HE hr f0 hw
  · have hw := hw.2 c13
    refine x_aload_n HE 0 dX4_house_16 rfl rfl ?_
    refine x_iconst HE dX4_house_17 (by decide) ?_
    refine x_callV HE dX4_house_18 rfl (fun l => k_X4_no (f0.ext (EB.tr (E1.tr E10))) l hw) (As := [iV 2]) (rest := []) rfl xc10 (Lay_X4.tag (f0.ext (EB.tr (E1.tr E10)))) (lw_V q1962 q1964 qs56 q129 q1965) hy_X4_no rfl rfl (Nat.le_of_ble_eq_true rfl) (Nat.le_of_ble_eq_true rfl) (Nat.le_of_ble_eq_true rfl) (kkI (fun r18 m18 E18 hw => ?_))
    have hw := hw E18
    exact x_iret HE hr dX4_house_21 hw
theorem k_X4_house {G : GT} {x0 x1 : Int} {Q : Int → Hp → Prop} {h : Hp} (f0 : Lay_X4 h x0) (l : Launch) (hw : g_X4_house x0 x1 Q h) : XM G l yX4_house cX4_house 3 (some .int) 11 235 [rV x0, iV x1] (QI Q) h :=
  XM.of (by decide) (Nat.le_of_ble_eq_true rfl) (fun X HE hr hn => w_X4_house_0 HE hr f0 hw)
def g_X4_fault (x0 : Int) (Q : Int → Hp → Prop) (h : Hp) : Prop :=
  ∀ m2 : Hp, m2 = setF h x0 0 0 → (Q (hF m2 x0 9) m2)
theorem w_X4_fault_0 {G : GT} {X : ET} {h0 : Hp} {x0 : Int} (HE : XE G X cX4_fault 1 RX4 0 0 h0) (hr : XR X (some .int)) (f0 : Lay_X4 h0 x0) {Q : Int → Hp → Prop} {h : Hp} (hw : g_X4_fault x0 Q h) : Wx G X h0 (QI Q) h 0 [some (rV x0)] [] := by
  refine Wx.start (fun EB => ?_)
  unfold g_X4_fault at hw
  refine x_aload_n HE 0 dX4_fault_0 rfl rfl ?_
  refine x_iconst HE dX4_fault_1 (by decide) ?_
  refine x_pI HE dX4_fault_2 fd_X4_0 q1837 (Or.inl rfl) (Or.inl rfl) (nf_int _) (Lay_X4.tag (f0.ext EB)) (nro (by decide)) (Or.inl nf_X4_0) (fun m2 em2 E2 => ?_)
  have hw := hw m2 em2
  refine x_aload_n HE 0 dX4_fault_5 rfl rfl ?_
  refine x_gI HE dX4_fault_6 fd_X4_9 q1846 (Or.inl rfl) (Lay_X4.tag (f0.ext (EB.tr E2))) rfl ?_
  exact x_iret HE hr dX4_fault_9 hw
theorem k_X4_fault {G : GT} {x0 : Int} {Q : Int → Hp → Prop} {h : Hp} (f0 : Lay_X4 h x0) (l : Launch) (hw : g_X4_fault x0 Q h) : XM G l yX4_fault cX4_fault 1 (some .int) 0 0 [rV x0] (QI Q) h :=
  XM.of (by decide) (Nat.le_of_ble_eq_true rfl) (fun X HE hr hn => w_X4_fault_0 HE hr f0 hw)
def g_X4_where_b21 (x0 : Int) (Q : Int → Hp → Prop) (s0 : Int) (h : Hp) : Prop :=
  Q s0 h
theorem w_X4_where_21 {G : GT} {X : ET} {h0 : Hp} {x0 : Int} (HE : XE G X cX4_where 1 RX4 0 0 h0) (hr : XR X (some .int)) (f0 : Lay_X4 h0 x0) {Q : Int → Hp → Prop} {s0 : Int} {h : Hp} (hw : g_X4_where_b21 x0 Q s0 h) : Wx G X h0 (QI Q) h 21 [some (rV x0)] [iV s0] := by
  refine Wx.start (fun EB => ?_)
  unfold g_X4_where_b21 at hw
  exact x_iret HE hr dX4_where_21 hw
def g_X4_where (x0 : Int) (Q : Int → Hp → Prop) (h : Hp) : Prop :=
  ∀ m2 : Hp, m2 = setF h x0 0 0 → ((((hF m2 x0 11) ≠ 4) → (g_X4_where_b21 x0 Q (-1) m2)) ∧ (((hF m2 x0 11) = 4) → (g_X4_where_b21 x0 Q (hF m2 x0 10) m2)))
theorem w_X4_where_0 {G : GT} {X : ET} {h0 : Hp} {x0 : Int} (HE : XE G X cX4_where 1 RX4 0 0 h0) (hr : XR X (some .int)) (f0 : Lay_X4 h0 x0) {Q : Int → Hp → Prop} {h : Hp} (hw : g_X4_where x0 Q h) : Wx G X h0 (QI Q) h 0 [some (rV x0)] [] := by
  refine Wx.start (fun EB => ?_)
  unfold g_X4_where at hw
  refine x_aload_n HE 0 dX4_where_0 rfl rfl ?_
  refine x_iconst HE dX4_where_1 (by decide) ?_
  refine x_pI HE dX4_where_2 fd_X4_0 q1837 (Or.inl rfl) (Or.inl rfl) (nf_int _) (Lay_X4.tag (f0.ext EB)) (nro (by decide)) (Or.inl nf_X4_0) (fun m2 em2 E2 => ?_)
  have hw := hw m2 em2
  refine x_aload_n HE 0 dX4_where_5 rfl rfl ?_
  refine x_gI HE dX4_where_6 fd_X4_11 q1848 (Or.inl rfl) (Lay_X4.tag (f0.ext (EB.tr E2))) rfl ?_
  refine x_iconst HE dX4_where_9 (by decide) ?_
  refine x_ic_ne HE 20 dX4_where_10 (by decide) (fun c10 => ?_) (fun c10 => ?_)
  · have hw := hw.1 c10
    refine x_iconst HE dX4_where_20 (by decide) ?_
    exact w_X4_where_21 HE hr f0 hw
  · have hw := hw.2 c10
    refine x_aload_n HE 0 dX4_where_13 rfl rfl ?_
    refine x_gI HE dX4_where_14 fd_X4_10 q1847 (Or.inl rfl) (Lay_X4.tag (f0.ext (EB.tr E2))) rfl ?_
    refine x_goto HE 21 dX4_where_17 (by decide) ?_
    exact w_X4_where_21 HE hr f0 hw
theorem k_X4_where {G : GT} {x0 : Int} {Q : Int → Hp → Prop} {h : Hp} (f0 : Lay_X4 h x0) (l : Launch) (hw : g_X4_where x0 Q h) : XM G l yX4_where cX4_where 1 (some .int) 0 0 [rV x0] (QI Q) h :=
  XM.of (by decide) (Nat.le_of_ble_eq_true rfl) (fun X HE hr hn => w_X4_where_0 HE hr f0 hw)
def g_X4_isPerson_b28 (x0 x1 : Int) (Q : Int → Hp → Prop) (s0 : Int) (h : Hp) : Prop :=
  (s0 = 0 ∨ s0 = 1) ∧ Q s0 h
theorem w_X4_isPerson_28 {G : GT} {X : ET} {h0 : Hp} {x0 x1 : Int} (HE : XE G X cX4_isPerson 2 RX4 1 22 h0) (hr : XR X (some .boolean)) (f0 : Lay_X4 h0 x0) {Q : Int → Hp → Prop} {s0 : Int} {h : Hp} (hw : g_X4_isPerson_b28 x0 x1 Q s0 h) : Wx G X h0 (QI Q) h 28 [some (rV x0), some (iV x1)] [iV s0] := by
  refine Wx.start (fun EB => ?_)
  unfold g_X4_isPerson_b28 at hw
  exact x_zret HE hr dX4_isPerson_28 hw.1 hw.2
def g_X4_isPerson_b27 (x0 x1 : Int) (Q : Int → Hp → Prop) (h : Hp) : Prop :=
  g_X4_isPerson_b28 x0 x1 Q 0 h
theorem w_X4_isPerson_27 {G : GT} {X : ET} {h0 : Hp} {x0 x1 : Int} (HE : XE G X cX4_isPerson 2 RX4 1 22 h0) (hr : XR X (some .boolean)) (f0 : Lay_X4 h0 x0) {Q : Int → Hp → Prop} {h : Hp} (hw : g_X4_isPerson_b27 x0 x1 Q  h) : Wx G X h0 (QI Q) h 27 [some (rV x0), some (iV x1)] [] := by
  refine Wx.start (fun EB => ?_)
  unfold g_X4_isPerson_b27 at hw
  refine x_iconst HE dX4_isPerson_27 (by decide) ?_
  exact w_X4_isPerson_28 HE hr f0 hw
def g_X4_isPerson (x0 x1 : Int) (Q : Int → Hp → Prop) (h : Hp) : Prop :=
  (((hF h x0 14) = 0) → (g_X4_isPerson_b27 x0 x1 Q h)) ∧ (((hF h x0 14) ≠ 0) → ((i32 ((hA h (x0 + 3) 5) - 1)) ∧ (g_X4_within x1 0 ((hA h (x0 + 3) 5) - 1) (fun r17 m17 => Ext h m17 → (((r17 = 0) → (g_X4_isPerson_b27 x0 x1 Q m17)) ∧ ((r17 ≠ 0) → (g_X4_isPerson_b28 x0 x1 Q 1 m17)))) h)))
theorem w_X4_isPerson_0 {G : GT} {X : ET} {h0 : Hp} {x0 x1 : Int} (HE : XE G X cX4_isPerson 2 RX4 1 22 h0) (hr : XR X (some .boolean)) (f0 : Lay_X4 h0 x0) {Q : Int → Hp → Prop} {h : Hp} (hw : g_X4_isPerson x0 x1 Q h) : Wx G X h0 (QI Q) h 0 [some (rV x0), some (iV x1)] [] := by
  refine Wx.start (fun EB => ?_)
  unfold g_X4_isPerson at hw
  refine x_aload_n HE 0 dX4_isPerson_0 rfl rfl ?_
  refine x_gI HE dX4_isPerson_1 fd_X4_14 q1851 (Or.inl rfl) (Lay_X4.tag (f0.ext EB)) rfl ?_
  refine x_if_eq HE 27 dX4_isPerson_4 (by decide) (fun c4 => ?_) (fun c4 => ?_)
  · have hw := hw.1 c4
    exact w_X4_isPerson_27 HE hr f0 hw
  · have hw := hw.2 c4
    refine x_iload_n HE 1 dX4_isPerson_7 rfl rfl ?_
    refine x_iconst HE dX4_isPerson_8 (by decide) ?_
    refine x_aload_n HE 0 dX4_isPerson_9 rfl rfl ?_
    refine x_gR HE dX4_isPerson_10 fd_X4_15 q1852 (Or.inl rfl) (Lay_X4.tag (f0.ext EB)) (Lay_X4_15 (f0.ext EB)).1 ?_
    refine x_iconst HE dX4_isPerson_13 (by decide) ?_
    refine x_iald HE dX4_isPerson_14 (t := 1) (by decide) ((Lay_X4_15 (f0.ext EB)).2.1) (ix_of ((Lay_X4_15 (f0.ext EB)).2.2) (by decide)) rfl ?_
    refine x_iconst HE dX4_isPerson_15 (by decide) ?_
    obtain ⟨v16, hw⟩ := hw
    refine x_isub HE dX4_isPerson_16 v16 ?_
    refine x_callS HE dX4_isPerson_17 rfl (fun l => k_X4_within  l hw) (As := [iV x1, iV 0, iV ((hA h (x0 + 3) 5) - 1)]) (rest := []) rfl (lw_S q1959 q1960 q129 q1961) hy_X4_within.2 rfl rfl (Nat.le_of_ble_eq_true rfl) (Nat.le_of_ble_eq_true rfl) (Nat.le_of_ble_eq_true rfl) (kkI (fun r17 m17 E17 hw => ?_))
    have hw := hw E17
    refine x_if_eq HE 27 dX4_isPerson_20 (by decide) (fun c20 => ?_) (fun c20 => ?_)
    · have hw := hw.1 c20
      exact w_X4_isPerson_27 HE hr f0 hw
    · have hw := hw.2 c20
      refine x_iconst HE dX4_isPerson_23 (by decide) ?_
      refine x_goto HE 28 dX4_isPerson_24 (by decide) ?_
      exact w_X4_isPerson_28 HE hr f0 hw
theorem k_X4_isPerson {G : GT} {x0 x1 : Int} {Q : Int → Hp → Prop} {h : Hp} (f0 : Lay_X4 h x0) (l : Launch) (hw : g_X4_isPerson x0 x1 Q h) : XM G l yX4_isPerson cX4_isPerson 2 (some .boolean) 1 22 [rV x0, iV x1] (QI Q) h :=
  XM.of (by decide) (Nat.le_of_ble_eq_true rfl) (fun X HE hr hn => w_X4_isPerson_0 HE hr f0 hw)
def g_X4_person_b105 (x0 x1 x2 : Int) (Q : Int → Hp → Prop) (s0 : Int) (h : Hp) : Prop :=
  Q s0 h
theorem w_X4_person_105 {G : GT} {X : ET} {h0 : Hp} {x0 x1 x2 : Int} (HE : XE G X cX4_person 4 RX4 2 43 h0) (hr : XR X (some .int)) (f0 : Lay_X4 h0 x0) {Q : Int → Hp → Prop} {s0 : Int} {h : Hp} (hw : g_X4_person_b105 x0 x1 x2 Q s0 h) : Wx G X h0 (QI Q) h 105 [some (rV x0), some (iV x1), some (iV x2), none] [iV s0] := by
  refine Wx.start (fun EB => ?_)
  unfold g_X4_person_b105 at hw
  exact x_iret HE hr dX4_person_105 hw
def g_X4_person_b97 (x0 x1 x2 : Int) (Q : Int → Hp → Prop) (l3 : Int) (h : Hp) : Prop :=
  (i32 (l3 + 0)) ∧ (((0 : Int) ≤ (l3 + 0) ∧ (l3 + 0) < 108) ∧ (g_X4_person_b105 x0 x1 x2 Q (hA h (x0 + 5) (l3 + 0)) h))
theorem w_X4_person_97 {G : GT} {X : ET} {h0 : Hp} {x0 x1 x2 : Int} (HE : XE G X cX4_person 4 RX4 2 43 h0) (hr : XR X (some .int)) (f0 : Lay_X4 h0 x0) {Q : Int → Hp → Prop} {l3 : Int} {h : Hp} (hw : g_X4_person_b97 x0 x1 x2 Q l3 h) : Wx G X h0 (QI Q) h 97 [some (rV x0), some (iV x1), some (iV x2), some (iV l3)] [] := by
  refine Wx.start (fun EB => ?_)
  unfold g_X4_person_b97 at hw
  refine x_aload_n HE 0 dX4_person_97 rfl rfl ?_
  refine x_gR HE dX4_person_98 fd_X4_17 q1854 (Or.inl rfl) (Lay_X4.tag (f0.ext EB)) (Lay_X4_17 (f0.ext EB)).1 ?_
  refine x_iload_n HE 3 dX4_person_101 rfl rfl ?_
  refine x_iconst HE dX4_person_102 (by decide) ?_
  obtain ⟨v103, hw⟩ := hw
  refine x_iadd HE dX4_person_103 v103 ?_
  obtain ⟨i104, hw⟩ := hw
  refine x_iald HE dX4_person_104 (t := 1) (by decide) ((Lay_X4_17 (f0.ext EB)).2.1) (ix_of ((Lay_X4_17 (f0.ext EB)).2.2) i104) rfl ?_
  refine Wx.mask [true, true, true, false] (lo2 := [some (rV x0), some (iV x1), some (iV x2), none]) rfl ?_
  exact w_X4_person_105 HE hr f0 hw
def g_X4_person (x0 x1 x2 : Int) (Q : Int → Hp → Prop) (h : Hp) : Prop :=
  g_X4_good x0 (fun m1 => Ext h m1 → (g_X4_isPerson x0 x1 (fun r6 m6 => Ext m1 m6 → (((r6 ≠ 0) → ((i32 (8 * x1)) ∧ ((i32 (12 + (8 * x1))) ∧ (∀ y25 : Int, y25 = (12 + (8 * x1)) → (((x2 = 0) → ((i32 (y25 + 0)) ∧ (((0 : Int) ≤ (y25 + 0) ∧ (y25 + 0) < 108) ∧ ((((hA m6 (x0 + 5) (y25 + 0)) ≠ 2) → (g_X4_person_b97 x0 x1 x2 Q y25 m6)) ∧ (((hA m6 (x0 + 5) (y25 + 0)) = 2) → ((i32 (y25 + 5)) ∧ (((0 : Int) ≤ (y25 + 5) ∧ (y25 + 5) < 108) ∧ ((((hA m6 (x0 + 5) 0) < (hA m6 (x0 + 5) (y25 + 5))) → (g_X4_person_b97 x0 x1 x2 Q y25 m6)) ∧ (((hA m6 (x0 + 5) (y25 + 5)) ≤ (hA m6 (x0 + 5) 0)) → (g_X4_person_b105 x0 x1 x2 Q 3 m6)))))))))) ∧ ((x2 = 1) → ((i32 (y25 + 1)) ∧ (((0 : Int) ≤ (y25 + 1) ∧ (y25 + 1) < 108) ∧ (Q (hA m6 (x0 + 5) (y25 + 1)) m6)))) ∧ ((x2 = 2) → ((i32 (y25 + 2)) ∧ (((0 : Int) ≤ (y25 + 2) ∧ (y25 + 2) < 108) ∧ (Q (hA m6 (x0 + 5) (y25 + 2)) m6)))) ∧ ((x2 = 3) → ((i32 (y25 + 3)) ∧ (((0 : Int) ≤ (y25 + 3) ∧ (y25 + 3) < 108) ∧ (Q (hA m6 (x0 + 5) (y25 + 3)) m6)))) ∧ ((x2 = 4) → ((i32 (y25 + 4)) ∧ (((0 : Int) ≤ (y25 + 4) ∧ (y25 + 4) < 108) ∧ (Q (hA m6 (x0 + 5) (y25 + 4)) m6)))) ∧ ((x2 = 5) → ((i32 (y25 + 5)) ∧ (((0 : Int) ≤ (y25 + 5) ∧ (y25 + 5) < 108) ∧ (Q (hA m6 (x0 + 5) (y25 + 5)) m6)))) ∧ ((x2 ≠ 0 ∧ x2 ≠ 1 ∧ x2 ≠ 2 ∧ x2 ≠ 3 ∧ x2 ≠ 4 ∧ x2 ≠ 5) → (g_X4_no x0 1 (fun r153 m153 => Ext m6 m153 → (Q r153 m153)) m6))))))) ∧ ((r6 = 0) → (g_X4_no x0 1 (fun r14 m14 => Ext m6 m14 → (Q r14 m14)) m6)))) m1)) h
theorem w_X4_person_0 {G : GT} {X : ET} {h0 : Hp} {x0 x1 x2 : Int} (HE : XE G X cX4_person 4 RX4 2 43 h0) (hr : XR X (some .int)) (f0 : Lay_X4 h0 x0) {Q : Int → Hp → Prop} {h : Hp} (hw : g_X4_person x0 x1 x2 Q h) : Wx G X h0 (QI Q) h 0 [some (rV x0), some (iV x1), some (iV x2), none] [] := by
  refine Wx.start (fun EB => ?_)
  unfold g_X4_person at hw
  refine x_aload_n HE 0 dX4_person_0 rfl rfl ?_
  refine x_callV HE dX4_person_1 rfl (fun l => k_X4_good (f0.ext EB) l hw) (As := []) (rest := []) rfl xc10 (Lay_X4.tag (f0.ext EB)) (lw_V q1955 q1957 qs55 q129 q1958) hy_X4_good rfl rfl (Nat.le_of_ble_eq_true rfl) (Nat.le_of_ble_eq_true rfl) (Nat.le_of_ble_eq_true rfl) (kkV (fun m1 E1 hw => ?_))
  have hw := hw E1
  refine x_aload_n HE 0 dX4_person_4 rfl rfl ?_
  refine x_iload_n HE 1 dX4_person_5 rfl rfl ?_
  refine x_callV HE dX4_person_6 rfl (fun l => k_X4_isPerson (f0.ext (EB.tr E1)) l hw) (As := [iV x1]) (rest := []) rfl xc10 (Lay_X4.tag (f0.ext (EB.tr E1))) (lw_V q2144 q2146 qs84 q129 q2147) hy_X4_isPerson rfl rfl (Nat.le_of_ble_eq_true rfl) (Nat.le_of_ble_eq_true rfl) (Nat.le_of_ble_eq_true rfl) (kkI (fun r6 m6 E6 hw => ?_))
  have hw := hw E6
  refine x_if_ne HE 18 dX4_person_9 (by decide) (fun c9 => ?_) (fun c9 => ?_)
  · have hw := hw.1 c9
    refine x_bipush HE dX4_person_18 (by decide) ?_
    refine x_bipush HE dX4_person_20 (by decide) ?_
    refine x_iload_n HE 1 dX4_person_22 rfl rfl ?_
    obtain ⟨v23, hw⟩ := hw
    refine x_imul HE dX4_person_23 v23 ?_
    obtain ⟨v24, hw⟩ := hw
    refine x_iadd HE dX4_person_24 v24 ?_
    refine x_istore_nN HE 3 (fun y25 => [some (rV x0), some (iV x1), some (iV x2), some (iV y25)]) dX4_person_25 rfl (Nat.le_of_ble_eq_true rfl) (fun _ => rfl) (fun y25 ey25 => ?_)
    have hw := hw y25 ey25
    refine x_iload_n HE 2 dX4_person_26 rfl rfl ?_
    by_cases s27_0 : x2 = 0
    · have hw := hw.1 s27_0
      refine x_tabIn HE 64 dX4_person_27 0 s27_0 (by decide) rfl (by decide) ?_
      refine x_aload_n HE 0 dX4_person_64 rfl rfl ?_
      refine x_gR HE dX4_person_65 fd_X4_17 q1854 (Or.inl rfl) (Lay_X4.tag (f0.ext (EB.tr (E1.tr E6)))) (Lay_X4_17 (f0.ext (EB.tr (E1.tr E6)))).1 ?_
      refine x_iload_n HE 3 dX4_person_68 rfl rfl ?_
      refine x_iconst HE dX4_person_69 (by decide) ?_
      obtain ⟨v70, hw⟩ := hw
      refine x_iadd HE dX4_person_70 v70 ?_
      obtain ⟨i71, hw⟩ := hw
      refine x_iald HE dX4_person_71 (t := 1) (by decide) ((Lay_X4_17 (f0.ext (EB.tr (E1.tr E6)))).2.1) (ix_of ((Lay_X4_17 (f0.ext (EB.tr (E1.tr E6)))).2.2) i71) rfl ?_
      refine x_iconst HE dX4_person_72 (by decide) ?_
      refine x_ic_ne HE 97 dX4_person_73 (by decide) (fun c73 => ?_) (fun c73 => ?_)
      · have hw := hw.1 c73
        exact w_X4_person_97 HE hr f0 hw
      · have hw := hw.2 c73
        refine x_aload_n HE 0 dX4_person_76 rfl rfl ?_
        refine x_gR HE dX4_person_77 fd_X4_17 q1854 (Or.inl rfl) (Lay_X4.tag (f0.ext (EB.tr (E1.tr E6)))) (Lay_X4_17 (f0.ext (EB.tr (E1.tr E6)))).1 ?_
        refine x_iload_n HE 3 dX4_person_80 rfl rfl ?_
        refine x_iconst HE dX4_person_81 (by decide) ?_
        obtain ⟨v82, hw⟩ := hw
        refine x_iadd HE dX4_person_82 v82 ?_
        obtain ⟨i83, hw⟩ := hw
        refine x_iald HE dX4_person_83 (t := 1) (by decide) ((Lay_X4_17 (f0.ext (EB.tr (E1.tr E6)))).2.1) (ix_of ((Lay_X4_17 (f0.ext (EB.tr (E1.tr E6)))).2.2) i83) rfl ?_
        refine x_aload_n HE 0 dX4_person_84 rfl rfl ?_
        refine x_gR HE dX4_person_85 fd_X4_17 q1854 (Or.inl rfl) (Lay_X4.tag (f0.ext (EB.tr (E1.tr E6)))) (Lay_X4_17 (f0.ext (EB.tr (E1.tr E6)))).1 ?_
        refine x_iconst HE dX4_person_88 (by decide) ?_
        refine x_iald HE dX4_person_89 (t := 1) (by decide) ((Lay_X4_17 (f0.ext (EB.tr (E1.tr E6)))).2.1) (ix_of ((Lay_X4_17 (f0.ext (EB.tr (E1.tr E6)))).2.2) (by decide)) rfl ?_
        refine x_ic_gt HE 97 dX4_person_90 (by decide) (fun c90 => ?_) (fun c90 => ?_)
        · have hw := hw.1 c90
          exact w_X4_person_97 HE hr f0 hw
        · have hw := hw.2 c90
          refine x_iconst HE dX4_person_93 (by decide) ?_
          refine x_goto HE 105 dX4_person_94 (by decide) ?_
          refine Wx.mask [true, true, true, false] (lo2 := [some (rV x0), some (iV x1), some (iV x2), none]) rfl ?_
          exact w_X4_person_105 HE hr f0 hw
    have hw := hw.2
    by_cases s27_1 : x2 = 1
    · have hw := hw.1 s27_1
      refine x_tabIn HE 106 dX4_person_27 1 s27_1 (by decide) rfl (by decide) ?_
      refine x_aload_n HE 0 dX4_person_106 rfl rfl ?_
      refine x_gR HE dX4_person_107 fd_X4_17 q1854 (Or.inl rfl) (Lay_X4.tag (f0.ext (EB.tr (E1.tr E6)))) (Lay_X4_17 (f0.ext (EB.tr (E1.tr E6)))).1 ?_
      refine x_iload_n HE 3 dX4_person_110 rfl rfl ?_
      refine x_iconst HE dX4_person_111 (by decide) ?_
      obtain ⟨v112, hw⟩ := hw
      refine x_iadd HE dX4_person_112 v112 ?_
      obtain ⟨i113, hw⟩ := hw
      refine x_iald HE dX4_person_113 (t := 1) (by decide) ((Lay_X4_17 (f0.ext (EB.tr (E1.tr E6)))).2.1) (ix_of ((Lay_X4_17 (f0.ext (EB.tr (E1.tr E6)))).2.2) i113) rfl ?_
      exact x_iret HE hr dX4_person_114 hw
    have hw := hw.2
    by_cases s27_2 : x2 = 2
    · have hw := hw.1 s27_2
      refine x_tabIn HE 115 dX4_person_27 2 s27_2 (by decide) rfl (by decide) ?_
      refine x_aload_n HE 0 dX4_person_115 rfl rfl ?_
      refine x_gR HE dX4_person_116 fd_X4_17 q1854 (Or.inl rfl) (Lay_X4.tag (f0.ext (EB.tr (E1.tr E6)))) (Lay_X4_17 (f0.ext (EB.tr (E1.tr E6)))).1 ?_
      refine x_iload_n HE 3 dX4_person_119 rfl rfl ?_
      refine x_iconst HE dX4_person_120 (by decide) ?_
      obtain ⟨v121, hw⟩ := hw
      refine x_iadd HE dX4_person_121 v121 ?_
      obtain ⟨i122, hw⟩ := hw
      refine x_iald HE dX4_person_122 (t := 1) (by decide) ((Lay_X4_17 (f0.ext (EB.tr (E1.tr E6)))).2.1) (ix_of ((Lay_X4_17 (f0.ext (EB.tr (E1.tr E6)))).2.2) i122) rfl ?_
      exact x_iret HE hr dX4_person_123 hw
    have hw := hw.2
    by_cases s27_3 : x2 = 3
    · have hw := hw.1 s27_3
      refine x_tabIn HE 124 dX4_person_27 3 s27_3 (by decide) rfl (by decide) ?_
      refine x_aload_n HE 0 dX4_person_124 rfl rfl ?_
      refine x_gR HE dX4_person_125 fd_X4_17 q1854 (Or.inl rfl) (Lay_X4.tag (f0.ext (EB.tr (E1.tr E6)))) (Lay_X4_17 (f0.ext (EB.tr (E1.tr E6)))).1 ?_
      refine x_iload_n HE 3 dX4_person_128 rfl rfl ?_
      refine x_iconst HE dX4_person_129 (by decide) ?_
      obtain ⟨v130, hw⟩ := hw
      refine x_iadd HE dX4_person_130 v130 ?_
      obtain ⟨i131, hw⟩ := hw
      refine x_iald HE dX4_person_131 (t := 1) (by decide) ((Lay_X4_17 (f0.ext (EB.tr (E1.tr E6)))).2.1) (ix_of ((Lay_X4_17 (f0.ext (EB.tr (E1.tr E6)))).2.2) i131) rfl ?_
      exact x_iret HE hr dX4_person_132 hw
    have hw := hw.2
    by_cases s27_4 : x2 = 4
    · have hw := hw.1 s27_4
      refine x_tabIn HE 133 dX4_person_27 4 s27_4 (by decide) rfl (by decide) ?_
      refine x_aload_n HE 0 dX4_person_133 rfl rfl ?_
      refine x_gR HE dX4_person_134 fd_X4_17 q1854 (Or.inl rfl) (Lay_X4.tag (f0.ext (EB.tr (E1.tr E6)))) (Lay_X4_17 (f0.ext (EB.tr (E1.tr E6)))).1 ?_
      refine x_iload_n HE 3 dX4_person_137 rfl rfl ?_
      refine x_iconst HE dX4_person_138 (by decide) ?_
      obtain ⟨v139, hw⟩ := hw
      refine x_iadd HE dX4_person_139 v139 ?_
      obtain ⟨i140, hw⟩ := hw
      refine x_iald HE dX4_person_140 (t := 1) (by decide) ((Lay_X4_17 (f0.ext (EB.tr (E1.tr E6)))).2.1) (ix_of ((Lay_X4_17 (f0.ext (EB.tr (E1.tr E6)))).2.2) i140) rfl ?_
      exact x_iret HE hr dX4_person_141 hw
    have hw := hw.2
    by_cases s27_5 : x2 = 5
    · have hw := hw.1 s27_5
      refine x_tabIn HE 142 dX4_person_27 5 s27_5 (by decide) rfl (by decide) ?_
      refine x_aload_n HE 0 dX4_person_142 rfl rfl ?_
      refine x_gR HE dX4_person_143 fd_X4_17 q1854 (Or.inl rfl) (Lay_X4.tag (f0.ext (EB.tr (E1.tr E6)))) (Lay_X4_17 (f0.ext (EB.tr (E1.tr E6)))).1 ?_
      refine x_iload_n HE 3 dX4_person_146 rfl rfl ?_
      refine x_iconst HE dX4_person_147 (by decide) ?_
      obtain ⟨v148, hw⟩ := hw
      refine x_iadd HE dX4_person_148 v148 ?_
      obtain ⟨i149, hw⟩ := hw
      refine x_iald HE dX4_person_149 (t := 1) (by decide) ((Lay_X4_17 (f0.ext (EB.tr (E1.tr E6)))).2.1) (ix_of ((Lay_X4_17 (f0.ext (EB.tr (E1.tr E6)))).2.2) i149) rfl ?_
      exact x_iret HE hr dX4_person_150 hw
    have hw := hw.2
    have hw := hw ⟨s27_0, s27_1, s27_2, s27_3, s27_4, s27_5⟩
    refine x_tabOut HE 151 dX4_person_27 (tabE (tabS (b := 6) (tabS (b := 5) (tabS (b := 4) (tabS (b := 3) (tabS (b := 2) (tabS (b := 1) (Int.lt_or_le x2 0) (by decide) s27_0) (by decide) s27_1) (by decide) s27_2) (by decide) s27_3) (by decide) s27_4) (by decide) s27_5) (by decide)) (by decide) ?_
    refine x_aload_n HE 0 dX4_person_151 rfl rfl ?_
    refine x_iconst HE dX4_person_152 (by decide) ?_
    refine x_callV HE dX4_person_153 rfl (fun l => k_X4_no (f0.ext (EB.tr (E1.tr E6))) l hw) (As := [iV 1]) (rest := []) rfl xc10 (Lay_X4.tag (f0.ext (EB.tr (E1.tr E6)))) (lw_V q1962 q1964 qs56 q129 q1965) hy_X4_no rfl rfl (Nat.le_of_ble_eq_true rfl) (Nat.le_of_ble_eq_true rfl) (Nat.le_of_ble_eq_true rfl) (kkI (fun r153 m153 E153 hw => ?_))
    have hw := hw E153
    exact x_iret HE hr dX4_person_156 hw
  · have hw := hw.2 c9
    refine x_aload_n HE 0 dX4_person_12 rfl rfl ?_
    refine x_iconst HE dX4_person_13 (by decide) ?_
    refine x_callV HE dX4_person_14 rfl (fun l => k_X4_no (f0.ext (EB.tr (E1.tr E6))) l hw) (As := [iV 1]) (rest := []) rfl xc10 (Lay_X4.tag (f0.ext (EB.tr (E1.tr E6)))) (lw_V q1962 q1964 qs56 q129 q1965) hy_X4_no rfl rfl (Nat.le_of_ble_eq_true rfl) (Nat.le_of_ble_eq_true rfl) (Nat.le_of_ble_eq_true rfl) (kkI (fun r14 m14 E14 hw => ?_))
    have hw := hw E14
    exact x_iret HE hr dX4_person_17 hw
theorem k_X4_person {G : GT} {x0 x1 x2 : Int} {Q : Int → Hp → Prop} {h : Hp} (f0 : Lay_X4 h x0) (l : Launch) (hw : g_X4_person x0 x1 x2 Q h) : XM G l yX4_person cX4_person 4 (some .int) 2 43 [rV x0, iV x1, iV x2] (QI Q) h :=
  XM.of (by decide) (Nat.le_of_ble_eq_true rfl) (fun X HE hr hn => w_X4_person_0 HE hr f0 hw)
def g_X4_isStaff_b28 (x0 x1 : Int) (Q : Int → Hp → Prop) (s0 : Int) (h : Hp) : Prop :=
  (s0 = 0 ∨ s0 = 1) ∧ Q s0 h
theorem w_X4_isStaff_28 {G : GT} {X : ET} {h0 : Hp} {x0 x1 : Int} (HE : XE G X cX4_isStaff 2 RX4 1 22 h0) (hr : XR X (some .boolean)) (f0 : Lay_X4 h0 x0) {Q : Int → Hp → Prop} {s0 : Int} {h : Hp} (hw : g_X4_isStaff_b28 x0 x1 Q s0 h) : Wx G X h0 (QI Q) h 28 [some (rV x0), some (iV x1)] [iV s0] := by
  refine Wx.start (fun EB => ?_)
  unfold g_X4_isStaff_b28 at hw
  exact x_zret HE hr dX4_isStaff_28 hw.1 hw.2
def g_X4_isStaff_b27 (x0 x1 : Int) (Q : Int → Hp → Prop) (h : Hp) : Prop :=
  g_X4_isStaff_b28 x0 x1 Q 0 h
theorem w_X4_isStaff_27 {G : GT} {X : ET} {h0 : Hp} {x0 x1 : Int} (HE : XE G X cX4_isStaff 2 RX4 1 22 h0) (hr : XR X (some .boolean)) (f0 : Lay_X4 h0 x0) {Q : Int → Hp → Prop} {h : Hp} (hw : g_X4_isStaff_b27 x0 x1 Q  h) : Wx G X h0 (QI Q) h 27 [some (rV x0), some (iV x1)] [] := by
  refine Wx.start (fun EB => ?_)
  unfold g_X4_isStaff_b27 at hw
  refine x_iconst HE dX4_isStaff_27 (by decide) ?_
  exact w_X4_isStaff_28 HE hr f0 hw
def g_X4_isStaff (x0 x1 : Int) (Q : Int → Hp → Prop) (h : Hp) : Prop :=
  (((hF h x0 14) = 0) → (g_X4_isStaff_b27 x0 x1 Q h)) ∧ (((hF h x0 14) ≠ 0) → ((i32 ((hA h (x0 + 3) 4) - 1)) ∧ (g_X4_within x1 0 ((hA h (x0 + 3) 4) - 1) (fun r17 m17 => Ext h m17 → (((r17 = 0) → (g_X4_isStaff_b27 x0 x1 Q m17)) ∧ ((r17 ≠ 0) → (g_X4_isStaff_b28 x0 x1 Q 1 m17)))) h)))
theorem w_X4_isStaff_0 {G : GT} {X : ET} {h0 : Hp} {x0 x1 : Int} (HE : XE G X cX4_isStaff 2 RX4 1 22 h0) (hr : XR X (some .boolean)) (f0 : Lay_X4 h0 x0) {Q : Int → Hp → Prop} {h : Hp} (hw : g_X4_isStaff x0 x1 Q h) : Wx G X h0 (QI Q) h 0 [some (rV x0), some (iV x1)] [] := by
  refine Wx.start (fun EB => ?_)
  unfold g_X4_isStaff at hw
  refine x_aload_n HE 0 dX4_isStaff_0 rfl rfl ?_
  refine x_gI HE dX4_isStaff_1 fd_X4_14 q1851 (Or.inl rfl) (Lay_X4.tag (f0.ext EB)) rfl ?_
  refine x_if_eq HE 27 dX4_isStaff_4 (by decide) (fun c4 => ?_) (fun c4 => ?_)
  · have hw := hw.1 c4
    exact w_X4_isStaff_27 HE hr f0 hw
  · have hw := hw.2 c4
    refine x_iload_n HE 1 dX4_isStaff_7 rfl rfl ?_
    refine x_iconst HE dX4_isStaff_8 (by decide) ?_
    refine x_aload_n HE 0 dX4_isStaff_9 rfl rfl ?_
    refine x_gR HE dX4_isStaff_10 fd_X4_15 q1852 (Or.inl rfl) (Lay_X4.tag (f0.ext EB)) (Lay_X4_15 (f0.ext EB)).1 ?_
    refine x_iconst HE dX4_isStaff_13 (by decide) ?_
    refine x_iald HE dX4_isStaff_14 (t := 1) (by decide) ((Lay_X4_15 (f0.ext EB)).2.1) (ix_of ((Lay_X4_15 (f0.ext EB)).2.2) (by decide)) rfl ?_
    refine x_iconst HE dX4_isStaff_15 (by decide) ?_
    obtain ⟨v16, hw⟩ := hw
    refine x_isub HE dX4_isStaff_16 v16 ?_
    refine x_callS HE dX4_isStaff_17 rfl (fun l => k_X4_within  l hw) (As := [iV x1, iV 0, iV ((hA h (x0 + 3) 4) - 1)]) (rest := []) rfl (lw_S q1959 q1960 q129 q1961) hy_X4_within.2 rfl rfl (Nat.le_of_ble_eq_true rfl) (Nat.le_of_ble_eq_true rfl) (Nat.le_of_ble_eq_true rfl) (kkI (fun r17 m17 E17 hw => ?_))
    have hw := hw E17
    refine x_if_eq HE 27 dX4_isStaff_20 (by decide) (fun c20 => ?_) (fun c20 => ?_)
    · have hw := hw.1 c20
      exact w_X4_isStaff_27 HE hr f0 hw
    · have hw := hw.2 c20
      refine x_iconst HE dX4_isStaff_23 (by decide) ?_
      refine x_goto HE 28 dX4_isStaff_24 (by decide) ?_
      exact w_X4_isStaff_28 HE hr f0 hw
theorem k_X4_isStaff {G : GT} {x0 x1 : Int} {Q : Int → Hp → Prop} {h : Hp} (f0 : Lay_X4 h x0) (l : Launch) (hw : g_X4_isStaff x0 x1 Q h) : XM G l yX4_isStaff cX4_isStaff 2 (some .boolean) 1 22 [rV x0, iV x1] (QI Q) h :=
  XM.of (by decide) (Nat.le_of_ble_eq_true rfl) (fun X HE hr hn => w_X4_isStaff_0 HE hr f0 hw)
def g_X4_staff_b174 (x0 x1 x2 : Int) (Q : Int → Hp → Prop) (s0 : Int) (h : Hp) : Prop :=
  Q s0 h
theorem w_X4_staff_174 {G : GT} {X : ET} {h0 : Hp} {x0 x1 x2 : Int} (HE : XE G X cX4_staff 7 RX4 2 45 h0) (hr : XR X (some .int)) (f0 : Lay_X4 h0 x0) {Q : Int → Hp → Prop} {s0 : Int} {h : Hp} (hw : g_X4_staff_b174 x0 x1 x2 Q s0 h) : Wx G X h0 (QI Q) h 174 [some (rV x0), some (iV x1), some (iV x2), none, none, none, none] [iV s0] := by
  refine Wx.start (fun EB => ?_)
  unfold g_X4_staff_b174 at hw
  exact x_iret HE hr dX4_staff_174 hw
def g_X4_staff_b129 (x0 x1 x2 : Int) (Q : Int → Hp → Prop) (l3 l4 l5 : Int) (h : Hp) : Prop :=
  ((x2 ≠ 0) → (((x2 ≠ 1) → (((l5 ≤ (hA h (x0 + 5) 0)) → (g_X4_staff_b174 x0 x1 x2 Q (hA h (x0 + 5) 0) h)) ∧ (((hA h (x0 + 5) 0) < l5) → (g_X4_staff_b174 x0 x1 x2 Q l5 h)))) ∧ ((x2 = 1) → (g_X4_staff_b174 x0 x1 x2 Q l4 h)))) ∧ ((x2 = 0) → (((0 : Int) ≤ l3 ∧ l3 < 108) ∧ (g_X4_staff_b174 x0 x1 x2 Q (hA h (x0 + 5) l3) h)))
theorem w_X4_staff_129 {G : GT} {X : ET} {h0 : Hp} {x0 x1 x2 : Int} (HE : XE G X cX4_staff 7 RX4 2 45 h0) (hr : XR X (some .int)) (f0 : Lay_X4 h0 x0) {Q : Int → Hp → Prop} {l3 l4 l5 : Int} {h : Hp} (hw : g_X4_staff_b129 x0 x1 x2 Q l3 l4 l5 h) : Wx G X h0 (QI Q) h 129 [some (rV x0), some (iV x1), some (iV x2), some (iV l3), some (iV l4), some (iV l5), none] [] := by
  refine Wx.start (fun EB => ?_)
  unfold g_X4_staff_b129 at hw
  refine x_iload_n HE 2 dX4_staff_129 rfl rfl ?_
  refine x_if_ne HE 142 dX4_staff_130 (by decide) (fun c130 => ?_) (fun c130 => ?_)
  · have hw := hw.1 c130
    refine x_iload_n HE 2 dX4_staff_142 rfl rfl ?_
    refine x_iconst HE dX4_staff_143 (by decide) ?_
    refine x_ic_ne HE 152 dX4_staff_144 (by decide) (fun c144 => ?_) (fun c144 => ?_)
    · have hw := hw.1 c144
      refine x_iload HE dX4_staff_152 rfl ?_
      refine x_aload_n HE 0 dX4_staff_154 rfl rfl ?_
      refine x_gR HE dX4_staff_155 fd_X4_17 q1854 (Or.inl rfl) (Lay_X4.tag (f0.ext EB)) (Lay_X4_17 (f0.ext EB)).1 ?_
      refine x_iconst HE dX4_staff_158 (by decide) ?_
      refine x_iald HE dX4_staff_159 (t := 1) (by decide) ((Lay_X4_17 (f0.ext EB)).2.1) (ix_of ((Lay_X4_17 (f0.ext EB)).2.2) (by decide)) rfl ?_
      refine x_ic_le HE 168 dX4_staff_160 (by decide) (fun c160 => ?_) (fun c160 => ?_)
      · have hw := hw.1 c160
        refine x_aload_n HE 0 dX4_staff_168 rfl rfl ?_
        refine x_gR HE dX4_staff_169 fd_X4_17 q1854 (Or.inl rfl) (Lay_X4.tag (f0.ext EB)) (Lay_X4_17 (f0.ext EB)).1 ?_
        refine x_iconst HE dX4_staff_172 (by decide) ?_
        refine x_iald HE dX4_staff_173 (t := 1) (by decide) ((Lay_X4_17 (f0.ext EB)).2.1) (ix_of ((Lay_X4_17 (f0.ext EB)).2.2) (by decide)) rfl ?_
        refine Wx.mask [true, true, true, false, false, false, true] (lo2 := [some (rV x0), some (iV x1), some (iV x2), none, none, none, none]) rfl ?_
        exact w_X4_staff_174 HE hr f0 hw
      · have hw := hw.2 c160
        refine x_iload HE dX4_staff_163 rfl ?_
        refine x_goto HE 174 dX4_staff_165 (by decide) ?_
        refine Wx.mask [true, true, true, false, false, false, true] (lo2 := [some (rV x0), some (iV x1), some (iV x2), none, none, none, none]) rfl ?_
        exact w_X4_staff_174 HE hr f0 hw
    · have hw := hw.2 c144
      refine x_iload HE dX4_staff_147 rfl ?_
      refine x_goto HE 174 dX4_staff_149 (by decide) ?_
      refine Wx.mask [true, true, true, false, false, false, true] (lo2 := [some (rV x0), some (iV x1), some (iV x2), none, none, none, none]) rfl ?_
      exact w_X4_staff_174 HE hr f0 hw
  · have hw := hw.2 c130
    refine x_aload_n HE 0 dX4_staff_133 rfl rfl ?_
    refine x_gR HE dX4_staff_134 fd_X4_17 q1854 (Or.inl rfl) (Lay_X4.tag (f0.ext EB)) (Lay_X4_17 (f0.ext EB)).1 ?_
    refine x_iload_n HE 3 dX4_staff_137 rfl rfl ?_
    obtain ⟨i138, hw⟩ := hw
    refine x_iald HE dX4_staff_138 (t := 1) (by decide) ((Lay_X4_17 (f0.ext EB)).2.1) (ix_of ((Lay_X4_17 (f0.ext EB)).2.2) i138) rfl ?_
    refine x_goto HE 174 dX4_staff_139 (by decide) ?_
    refine Wx.mask [true, true, true, false, false, false, true] (lo2 := [some (rV x0), some (iV x1), some (iV x2), none, none, none, none]) rfl ?_
    exact w_X4_staff_174 HE hr f0 hw
def g_X4_staff_b121 (x0 x1 x2 : Int) (Q : Int → Hp → Prop) (K49 : Int → Int → Int → Int → Hp → Prop) (l3 l4 l6 s0 : Int) (h : Hp) : Prop :=
  (i32 (l6 + 1)) ∧ (∀ y123 : Int, y123 = l6 + 1 → (K49 l3 l4 s0 y123 h))
theorem w_X4_staff_121 {G : GT} {X : ET} {h0 : Hp} {x0 x1 x2 : Int} (HE : XE G X cX4_staff 7 RX4 2 45 h0) (hr : XR X (some .int)) (f0 : Lay_X4 h0 x0) {Q : Int → Hp → Prop} {K49 : Int → Int → Int → Int → Hp → Prop} (hK49 : ∀ (l3 l4 l5 l6 : Int) (h : Hp), K49 l3 l4 l5 l6 h → Wx G X h0 (QI Q) h 49 [some (rV x0), some (iV x1), some (iV x2), some (iV l3), some (iV l4), some (iV l5), some (iV l6)] []) {l3 l4 l6 s0 : Int} {h : Hp} (hw : g_X4_staff_b121 x0 x1 x2 Q K49 l3 l4 l6 s0 h) : Wx G X h0 (QI Q) h 121 [some (rV x0), some (iV x1), some (iV x2), some (iV l3), some (iV l4), none, some (iV l6)] [iV s0] := by
  refine Wx.start (fun EB => ?_)
  unfold g_X4_staff_b121 at hw
  refine x_istore HE (lo' := [some (rV x0), some (iV x1), some (iV x2), some (iV l3), some (iV l4), some (iV s0), some (iV l6)]) dX4_staff_121 (Nat.le_of_ble_eq_true rfl) rfl ?_
  obtain ⟨v123, hw⟩ := hw
  refine x_iincN HE (fun y123 => [some (rV x0), some (iV x1), some (iV x2), some (iV l3), some (iV l4), some (iV s0), some (iV y123)]) dX4_staff_123 rfl v123 (Nat.le_of_ble_eq_true rfl) (fun _ => rfl) (fun y123 ey123 => ?_)
  have hw := hw y123 ey123
  refine x_goto HE 49 dX4_staff_126 (by decide) ?_
  exact hK49 _ _ _ _ _ hw
def g_X4_staff_b90 (x0 x1 x2 : Int) (Q : Int → Hp → Prop) (K49 : Int → Int → Int → Int → Hp → Prop) (l3 l5 l6 s0 s1 : Int) (h : Hp) : Prop :=
  (i32 (s0 + s1)) ∧ (∀ y91 : Int, y91 = (s0 + s1) → ((i32 (l3 + l6)) ∧ (((0 : Int) ≤ (l3 + l6) ∧ (l3 + l6) < 108) ∧ (((l5 ≤ (hA h (x0 + 5) (l3 + l6))) → (g_X4_staff_b121 x0 x1 x2 Q K49 l3 y91 l6 l5 h)) ∧ (((hA h (x0 + 5) (l3 + l6)) < l5) → ((i32 (l3 + l6)) ∧ (((0 : Int) ≤ (l3 + l6) ∧ (l3 + l6) < 108) ∧ (g_X4_staff_b121 x0 x1 x2 Q K49 l3 y91 l6 (hA h (x0 + 5) (l3 + l6)) h))))))))
theorem w_X4_staff_90 {G : GT} {X : ET} {h0 : Hp} {x0 x1 x2 : Int} (HE : XE G X cX4_staff 7 RX4 2 45 h0) (hr : XR X (some .int)) (f0 : Lay_X4 h0 x0) {Q : Int → Hp → Prop} {K49 : Int → Int → Int → Int → Hp → Prop} (hK49 : ∀ (l3 l4 l5 l6 : Int) (h : Hp), K49 l3 l4 l5 l6 h → Wx G X h0 (QI Q) h 49 [some (rV x0), some (iV x1), some (iV x2), some (iV l3), some (iV l4), some (iV l5), some (iV l6)] []) {l3 l5 l6 s0 s1 : Int} {h : Hp} (hw : g_X4_staff_b90 x0 x1 x2 Q K49 l3 l5 l6 s0 s1 h) : Wx G X h0 (QI Q) h 90 [some (rV x0), some (iV x1), some (iV x2), some (iV l3), none, some (iV l5), some (iV l6)] [iV s1, iV s0] := by
  refine Wx.start (fun EB => ?_)
  unfold g_X4_staff_b90 at hw
  obtain ⟨v90, hw⟩ := hw
  refine x_iadd HE dX4_staff_90 v90 ?_
  refine x_istoreN HE (fun y91 => [some (rV x0), some (iV x1), some (iV x2), some (iV l3), some (iV y91), some (iV l5), some (iV l6)]) dX4_staff_91 (Nat.le_of_ble_eq_true rfl) (fun _ => rfl) (fun y91 ey91 => ?_)
  have hw := hw y91 ey91
  refine x_aload_n HE 0 dX4_staff_93 rfl rfl ?_
  refine x_gR HE dX4_staff_94 fd_X4_17 q1854 (Or.inl rfl) (Lay_X4.tag (f0.ext EB)) (Lay_X4_17 (f0.ext EB)).1 ?_
  refine x_iload_n HE 3 dX4_staff_97 rfl rfl ?_
  refine x_iload HE dX4_staff_98 rfl ?_
  obtain ⟨v100, hw⟩ := hw
  refine x_iadd HE dX4_staff_100 v100 ?_
  obtain ⟨i101, hw⟩ := hw
  refine x_iald HE dX4_staff_101 (t := 1) (by decide) ((Lay_X4_17 (f0.ext EB)).2.1) (ix_of ((Lay_X4_17 (f0.ext EB)).2.2) i101) rfl ?_
  refine x_iload HE dX4_staff_102 rfl ?_
  refine x_ic_ge HE 119 dX4_staff_104 (by decide) (fun c104 => ?_) (fun c104 => ?_)
  · have hw := hw.1 c104
    refine x_iload HE dX4_staff_119 rfl ?_
    refine Wx.mask [true, true, true, true, true, false, true] (lo2 := [some (rV x0), some (iV x1), some (iV x2), some (iV l3), some (iV y91), none, some (iV l6)]) rfl ?_
    exact w_X4_staff_121 HE hr f0 hK49 hw
  · have hw := hw.2 c104
    refine x_aload_n HE 0 dX4_staff_107 rfl rfl ?_
    refine x_gR HE dX4_staff_108 fd_X4_17 q1854 (Or.inl rfl) (Lay_X4.tag (f0.ext EB)) (Lay_X4_17 (f0.ext EB)).1 ?_
    refine x_iload_n HE 3 dX4_staff_111 rfl rfl ?_
    refine x_iload HE dX4_staff_112 rfl ?_
    obtain ⟨v114, hw⟩ := hw
    refine x_iadd HE dX4_staff_114 v114 ?_
    obtain ⟨i115, hw⟩ := hw
    refine x_iald HE dX4_staff_115 (t := 1) (by decide) ((Lay_X4_17 (f0.ext EB)).2.1) (ix_of ((Lay_X4_17 (f0.ext EB)).2.2) i115) rfl ?_
    refine x_goto HE 121 dX4_staff_116 (by decide) ?_
    refine Wx.mask [true, true, true, true, true, false, true] (lo2 := [some (rV x0), some (iV x1), some (iV x2), some (iV l3), some (iV y91), none, some (iV l6)]) rfl ?_
    exact w_X4_staff_121 HE hr f0 hK49 hw
def g_X4_staff_L49 (x0 x1 x2 : Int) (Q : Int → Hp → Prop) (K49 : Int → Int → Int → Int → Hp → Prop) (l3 l4 l5 l6 : Int) (h : Hp) : Prop :=
  (i32 (6 * x1)) ∧ ((i32 ((6 * x1) + 5)) ∧ (((0 : Int) ≤ ((6 * x1) + 5) ∧ ((6 * x1) + 5) < 24) ∧ ((((hA h (x0 + 9) ((6 * x1) + 5)) < l6) → (g_X4_staff_b129 x0 x1 x2 Q l3 l4 l5 h)) ∧ ((l6 ≤ (hA h (x0 + 9) ((6 * x1) + 5))) → ((i32 (l3 + l6)) ∧ (((0 : Int) ≤ (l3 + l6) ∧ (l3 + l6) < 108) ∧ ((((hA h (x0 + 5) (l3 + l6)) ≤ (hA h (x0 + 5) 0)) → (g_X4_staff_b90 x0 x1 x2 Q K49 l3 l5 l6 l4 0 h)) ∧ (((hA h (x0 + 5) 0) < (hA h (x0 + 5) (l3 + l6))) → (g_X4_staff_b90 x0 x1 x2 Q K49 l3 l5 l6 l4 1 h)))))))))
theorem w_X4_staff_49 {G : GT} {X : ET} {h0 : Hp} {x0 x1 x2 : Int} (HE : XE G X cX4_staff 7 RX4 2 45 h0) (hr : XR X (some .int)) (f0 : Lay_X4 h0 x0) {Q : Int → Hp → Prop} {K49 : Int → Int → Int → Int → Hp → Prop} (hK49 : ∀ (l3 l4 l5 l6 : Int) (h : Hp), K49 l3 l4 l5 l6 h → Wx G X h0 (QI Q) h 49 [some (rV x0), some (iV x1), some (iV x2), some (iV l3), some (iV l4), some (iV l5), some (iV l6)] []) {l3 l4 l5 l6 : Int} {h : Hp} (hw : g_X4_staff_L49 x0 x1 x2 Q K49 l3 l4 l5 l6 h) : Wx G X h0 (QI Q) h 49 [some (rV x0), some (iV x1), some (iV x2), some (iV l3), some (iV l4), some (iV l5), some (iV l6)] [] := by
  refine Wx.start (fun EB => ?_)
  unfold g_X4_staff_L49 at hw
  refine x_iload HE dX4_staff_49 rfl ?_
  refine x_aload_n HE 0 dX4_staff_51 rfl rfl ?_
  refine x_gR HE dX4_staff_52 fd_X4_23 q1860 (Or.inl rfl) (Lay_X4.tag (f0.ext EB)) (Lay_X4_23 (f0.ext EB)).1 ?_
  refine x_bipush HE dX4_staff_55 (by decide) ?_
  refine x_iload_n HE 1 dX4_staff_57 rfl rfl ?_
  obtain ⟨v58, hw⟩ := hw
  refine x_imul HE dX4_staff_58 v58 ?_
  refine x_iconst HE dX4_staff_59 (by decide) ?_
  obtain ⟨v60, hw⟩ := hw
  refine x_iadd HE dX4_staff_60 v60 ?_
  obtain ⟨i61, hw⟩ := hw
  refine x_iald HE dX4_staff_61 (t := 1) (by decide) ((Lay_X4_23 (f0.ext EB)).2.1) (ix_of ((Lay_X4_23 (f0.ext EB)).2.2) i61) rfl ?_
  refine x_ic_gt HE 129 dX4_staff_62 (by decide) (fun c62 => ?_) (fun c62 => ?_)
  · have hw := hw.1 c62
    refine Wx.mask [true, true, true, true, true, true, false] (lo2 := [some (rV x0), some (iV x1), some (iV x2), some (iV l3), some (iV l4), some (iV l5), none]) rfl ?_
    exact w_X4_staff_129 HE hr f0 hw
  · have hw := hw.2 c62
    refine x_iload HE dX4_staff_65 rfl ?_
    refine x_aload_n HE 0 dX4_staff_67 rfl rfl ?_
    refine x_gR HE dX4_staff_68 fd_X4_17 q1854 (Or.inl rfl) (Lay_X4.tag (f0.ext EB)) (Lay_X4_17 (f0.ext EB)).1 ?_
    refine x_iload_n HE 3 dX4_staff_71 rfl rfl ?_
    refine x_iload HE dX4_staff_72 rfl ?_
    obtain ⟨v74, hw⟩ := hw
    refine x_iadd HE dX4_staff_74 v74 ?_
    obtain ⟨i75, hw⟩ := hw
    refine x_iald HE dX4_staff_75 (t := 1) (by decide) ((Lay_X4_17 (f0.ext EB)).2.1) (ix_of ((Lay_X4_17 (f0.ext EB)).2.2) i75) rfl ?_
    refine x_aload_n HE 0 dX4_staff_76 rfl rfl ?_
    refine x_gR HE dX4_staff_77 fd_X4_17 q1854 (Or.inl rfl) (Lay_X4.tag (f0.ext EB)) (Lay_X4_17 (f0.ext EB)).1 ?_
    refine x_iconst HE dX4_staff_80 (by decide) ?_
    refine x_iald HE dX4_staff_81 (t := 1) (by decide) ((Lay_X4_17 (f0.ext EB)).2.1) (ix_of ((Lay_X4_17 (f0.ext EB)).2.2) (by decide)) rfl ?_
    refine x_ic_le HE 89 dX4_staff_82 (by decide) (fun c82 => ?_) (fun c82 => ?_)
    · have hw := hw.1 c82
      refine x_iconst HE dX4_staff_89 (by decide) ?_
      refine Wx.mask [true, true, true, true, false, true, true] (lo2 := [some (rV x0), some (iV x1), some (iV x2), some (iV l3), none, some (iV l5), some (iV l6)]) rfl ?_
      exact w_X4_staff_90 HE hr f0 hK49 hw
    · have hw := hw.2 c82
      refine x_iconst HE dX4_staff_85 (by decide) ?_
      refine x_goto HE 90 dX4_staff_86 (by decide) ?_
      refine Wx.mask [true, true, true, true, false, true, true] (lo2 := [some (rV x0), some (iV x1), some (iV x2), some (iV l3), none, some (iV l5), some (iV l6)]) rfl ?_
      exact w_X4_staff_90 HE hr f0 hK49 hw
theorem wl_X4_staff_49 {G : GT} {X : ET} {h0 : Hp} {x0 x1 x2 : Int} (HE : XE G X cX4_staff 7 RX4 2 45 h0) (hr : XR X (some .int)) (f0 : Lay_X4 h0 x0) {Q : Int → Hp → Prop} {l3 l4 l5 l6 : Int} {h : Hp} (hw : Lp4 (g_X4_staff_L49 x0 x1 x2 Q) l3 l4 l5 l6 h) : Wx G X h0 (QI Q) h 49 [some (rV x0), some (iV x1), some (iV x2), some (iV l3), some (iV l4), some (iV l5), some (iV l6)] [] := by
  obtain ⟨n, hw⟩ := hw
  induction n generalizing l3 l4 l5 l6 h with
  | zero => exact hw.elim
  | succ n ih => exact w_X4_staff_49 HE hr f0 (fun _ _ _ _ _ hk => ih hk) hw
def g_X4_staff_b21 (x0 x1 x2 : Int) (Q : Int → Hp → Prop) (h : Hp) : Prop :=
  g_X4_no x0 1 (fun r23 m23 => Ext h m23 → (Q r23 m23)) h
theorem w_X4_staff_21 {G : GT} {X : ET} {h0 : Hp} {x0 x1 x2 : Int} (HE : XE G X cX4_staff 7 RX4 2 45 h0) (hr : XR X (some .int)) (f0 : Lay_X4 h0 x0) {Q : Int → Hp → Prop} {h : Hp} (hw : g_X4_staff_b21 x0 x1 x2 Q  h) : Wx G X h0 (QI Q) h 21 [some (rV x0), some (iV x1), some (iV x2), none, none, none, none] [] := by
  refine Wx.start (fun EB => ?_)
  unfold g_X4_staff_b21 at hw
  refine x_aload_n HE 0 dX4_staff_21 rfl rfl ?_
  refine x_iconst HE dX4_staff_22 (by decide) ?_
  refine x_callV HE dX4_staff_23 rfl (fun l => k_X4_no (f0.ext EB) l hw) (As := [iV 1]) (rest := []) rfl xc10 (Lay_X4.tag (f0.ext EB)) (lw_V q1962 q1964 qs56 q129 q1965) hy_X4_no rfl rfl (Nat.le_of_ble_eq_true rfl) (Nat.le_of_ble_eq_true rfl) (Nat.le_of_ble_eq_true rfl) (kkI (fun r23 m23 E23 hw => ?_))
  have hw := hw E23
  exact x_iret HE hr dX4_staff_26 hw
def g_X4_staff (x0 x1 x2 : Int) (Q : Int → Hp → Prop) (h : Hp) : Prop :=
  g_X4_good x0 (fun m1 => Ext h m1 → (g_X4_isStaff x0 x1 (fun r6 m6 => Ext m1 m6 → (((r6 = 0) → (g_X4_staff_b21 x0 x1 x2 Q m6)) ∧ ((r6 ≠ 0) → (g_X4_within x2 0 2 (fun r15 m15 => Ext m6 m15 → (((r15 ≠ 0) → (g_X4_asTold x0 (fun m28 => Ext m15 m28 → ((i32 (4 * x1)) ∧ ((i32 (92 + (4 * x1))) ∧ (∀ y37 : Int, y37 = (92 + (4 * x1)) → (Lp4 (g_X4_staff_L49 x0 x1 x2 Q) y37 0 1000000 1 m28))))) m15)) ∧ ((r15 = 0) → (g_X4_staff_b21 x0 x1 x2 Q m15)))) m6)))) m1)) h
theorem w_X4_staff_0 {G : GT} {X : ET} {h0 : Hp} {x0 x1 x2 : Int} (HE : XE G X cX4_staff 7 RX4 2 45 h0) (hr : XR X (some .int)) (f0 : Lay_X4 h0 x0) {Q : Int → Hp → Prop} {h : Hp} (hw : g_X4_staff x0 x1 x2 Q h) : Wx G X h0 (QI Q) h 0 [some (rV x0), some (iV x1), some (iV x2), none, none, none, none] [] := by
  refine Wx.start (fun EB => ?_)
  unfold g_X4_staff at hw
  refine x_aload_n HE 0 dX4_staff_0 rfl rfl ?_
  refine x_callV HE dX4_staff_1 rfl (fun l => k_X4_good (f0.ext EB) l hw) (As := []) (rest := []) rfl xc10 (Lay_X4.tag (f0.ext EB)) (lw_V q1955 q1957 qs55 q129 q1958) hy_X4_good rfl rfl (Nat.le_of_ble_eq_true rfl) (Nat.le_of_ble_eq_true rfl) (Nat.le_of_ble_eq_true rfl) (kkV (fun m1 E1 hw => ?_))
  have hw := hw E1
  refine x_aload_n HE 0 dX4_staff_4 rfl rfl ?_
  refine x_iload_n HE 1 dX4_staff_5 rfl rfl ?_
  refine x_callV HE dX4_staff_6 rfl (fun l => k_X4_isStaff (f0.ext (EB.tr E1)) l hw) (As := [iV x1]) (rest := []) rfl xc10 (Lay_X4.tag (f0.ext (EB.tr E1))) (lw_V q2152 q2154 qs85 q129 q2155) hy_X4_isStaff rfl rfl (Nat.le_of_ble_eq_true rfl) (Nat.le_of_ble_eq_true rfl) (Nat.le_of_ble_eq_true rfl) (kkI (fun r6 m6 E6 hw => ?_))
  have hw := hw E6
  refine x_if_eq HE 21 dX4_staff_9 (by decide) (fun c9 => ?_) (fun c9 => ?_)
  · have hw := hw.1 c9
    exact w_X4_staff_21 HE hr f0 hw
  · have hw := hw.2 c9
    refine x_iload_n HE 2 dX4_staff_12 rfl rfl ?_
    refine x_iconst HE dX4_staff_13 (by decide) ?_
    refine x_iconst HE dX4_staff_14 (by decide) ?_
    refine x_callS HE dX4_staff_15 rfl (fun l => k_X4_within  l hw) (As := [iV x2, iV 0, iV 2]) (rest := []) rfl (lw_S q1959 q1960 q129 q1961) hy_X4_within.2 rfl rfl (Nat.le_of_ble_eq_true rfl) (Nat.le_of_ble_eq_true rfl) (Nat.le_of_ble_eq_true rfl) (kkI (fun r15 m15 E15 hw => ?_))
    have hw := hw E15
    refine x_if_ne HE 27 dX4_staff_18 (by decide) (fun c18 => ?_) (fun c18 => ?_)
    · have hw := hw.1 c18
      refine x_aload_n HE 0 dX4_staff_27 rfl rfl ?_
      refine x_callV HE dX4_staff_28 rfl (fun l => k_X4_asTold (f0.ext (EB.tr (E1.tr (E6.tr E15)))) l hw) (As := []) (rest := []) rfl xc10 (Lay_X4.tag (f0.ext (EB.tr (E1.tr (E6.tr E15))))) (lw_V q2116 q2118 qs80 q129 q2119) hy_X4_asTold rfl rfl (Nat.le_of_ble_eq_true rfl) (Nat.le_of_ble_eq_true rfl) (Nat.le_of_ble_eq_true rfl) (kkV (fun m28 E28 hw => ?_))
      have hw := hw E28
      refine x_bipush HE dX4_staff_31 (by decide) ?_
      refine x_iconst HE dX4_staff_33 (by decide) ?_
      refine x_iload_n HE 1 dX4_staff_34 rfl rfl ?_
      obtain ⟨v35, hw⟩ := hw
      refine x_imul HE dX4_staff_35 v35 ?_
      obtain ⟨v36, hw⟩ := hw
      refine x_iadd HE dX4_staff_36 v36 ?_
      refine x_istore_nN HE 3 (fun y37 => [some (rV x0), some (iV x1), some (iV x2), some (iV y37), none, none, none]) dX4_staff_37 rfl (Nat.le_of_ble_eq_true rfl) (fun _ => rfl) (fun y37 ey37 => ?_)
      have hw := hw y37 ey37
      refine x_iconst HE dX4_staff_38 (by decide) ?_
      refine x_istore HE (lo' := [some (rV x0), some (iV x1), some (iV x2), some (iV y37), some (iV 0), none, none]) dX4_staff_39 (Nat.le_of_ble_eq_true rfl) rfl ?_
      refine x_ldcwI (n := 1000000) HE dX4_staff_41 q2156 (by unfold i32; decide) rfl ?_
      refine x_istore HE (lo' := [some (rV x0), some (iV x1), some (iV x2), some (iV y37), some (iV 0), some (iV 1000000), none]) dX4_staff_44 (Nat.le_of_ble_eq_true rfl) rfl ?_
      refine x_iconst HE dX4_staff_46 (by decide) ?_
      refine x_istore HE (lo' := [some (rV x0), some (iV x1), some (iV x2), some (iV y37), some (iV 0), some (iV 1000000), some (iV 1)]) dX4_staff_47 (Nat.le_of_ble_eq_true rfl) rfl ?_
      exact wl_X4_staff_49 HE hr f0 hw
    · have hw := hw.2 c18
      exact w_X4_staff_21 HE hr f0 hw
theorem k_X4_staff {G : GT} {x0 x1 x2 : Int} {Q : Int → Hp → Prop} {h : Hp} (f0 : Lay_X4 h x0) (l : Launch) (hw : g_X4_staff x0 x1 x2 Q h) : XM G l yX4_staff cX4_staff 7 (some .int) 2 45 [rV x0, iV x1, iV x2] (QI Q) h :=
  XM.of (by decide) (Nat.le_of_ble_eq_true rfl) (fun X HE hr hn => w_X4_staff_0 HE hr f0 hw)
def g_X4_isSpot_b28 (x0 x1 : Int) (Q : Int → Hp → Prop) (s0 : Int) (h : Hp) : Prop :=
  (s0 = 0 ∨ s0 = 1) ∧ Q s0 h
theorem w_X4_isSpot_28 {G : GT} {X : ET} {h0 : Hp} {x0 x1 : Int} (HE : XE G X cX4_isSpot 2 RX4 1 22 h0) (hr : XR X (some .boolean)) (f0 : Lay_X4 h0 x0) {Q : Int → Hp → Prop} {s0 : Int} {h : Hp} (hw : g_X4_isSpot_b28 x0 x1 Q s0 h) : Wx G X h0 (QI Q) h 28 [some (rV x0), some (iV x1)] [iV s0] := by
  refine Wx.start (fun EB => ?_)
  unfold g_X4_isSpot_b28 at hw
  exact x_zret HE hr dX4_isSpot_28 hw.1 hw.2
def g_X4_isSpot_b27 (x0 x1 : Int) (Q : Int → Hp → Prop) (h : Hp) : Prop :=
  g_X4_isSpot_b28 x0 x1 Q 0 h
theorem w_X4_isSpot_27 {G : GT} {X : ET} {h0 : Hp} {x0 x1 : Int} (HE : XE G X cX4_isSpot 2 RX4 1 22 h0) (hr : XR X (some .boolean)) (f0 : Lay_X4 h0 x0) {Q : Int → Hp → Prop} {h : Hp} (hw : g_X4_isSpot_b27 x0 x1 Q  h) : Wx G X h0 (QI Q) h 27 [some (rV x0), some (iV x1)] [] := by
  refine Wx.start (fun EB => ?_)
  unfold g_X4_isSpot_b27 at hw
  refine x_iconst HE dX4_isSpot_27 (by decide) ?_
  exact w_X4_isSpot_28 HE hr f0 hw
def g_X4_isSpot (x0 x1 : Int) (Q : Int → Hp → Prop) (h : Hp) : Prop :=
  (((hF h x0 14) = 0) → (g_X4_isSpot_b27 x0 x1 Q h)) ∧ (((hF h x0 14) ≠ 0) → ((i32 ((hA h (x0 + 3) 1) - 1)) ∧ (g_X4_within x1 0 ((hA h (x0 + 3) 1) - 1) (fun r17 m17 => Ext h m17 → (((r17 = 0) → (g_X4_isSpot_b27 x0 x1 Q m17)) ∧ ((r17 ≠ 0) → (g_X4_isSpot_b28 x0 x1 Q 1 m17)))) h)))
theorem w_X4_isSpot_0 {G : GT} {X : ET} {h0 : Hp} {x0 x1 : Int} (HE : XE G X cX4_isSpot 2 RX4 1 22 h0) (hr : XR X (some .boolean)) (f0 : Lay_X4 h0 x0) {Q : Int → Hp → Prop} {h : Hp} (hw : g_X4_isSpot x0 x1 Q h) : Wx G X h0 (QI Q) h 0 [some (rV x0), some (iV x1)] [] := by
  refine Wx.start (fun EB => ?_)
  unfold g_X4_isSpot at hw
  refine x_aload_n HE 0 dX4_isSpot_0 rfl rfl ?_
  refine x_gI HE dX4_isSpot_1 fd_X4_14 q1851 (Or.inl rfl) (Lay_X4.tag (f0.ext EB)) rfl ?_
  refine x_if_eq HE 27 dX4_isSpot_4 (by decide) (fun c4 => ?_) (fun c4 => ?_)
  · have hw := hw.1 c4
    exact w_X4_isSpot_27 HE hr f0 hw
  · have hw := hw.2 c4
    refine x_iload_n HE 1 dX4_isSpot_7 rfl rfl ?_
    refine x_iconst HE dX4_isSpot_8 (by decide) ?_
    refine x_aload_n HE 0 dX4_isSpot_9 rfl rfl ?_
    refine x_gR HE dX4_isSpot_10 fd_X4_15 q1852 (Or.inl rfl) (Lay_X4.tag (f0.ext EB)) (Lay_X4_15 (f0.ext EB)).1 ?_
    refine x_iconst HE dX4_isSpot_13 (by decide) ?_
    refine x_iald HE dX4_isSpot_14 (t := 1) (by decide) ((Lay_X4_15 (f0.ext EB)).2.1) (ix_of ((Lay_X4_15 (f0.ext EB)).2.2) (by decide)) rfl ?_
    refine x_iconst HE dX4_isSpot_15 (by decide) ?_
    obtain ⟨v16, hw⟩ := hw
    refine x_isub HE dX4_isSpot_16 v16 ?_
    refine x_callS HE dX4_isSpot_17 rfl (fun l => k_X4_within  l hw) (As := [iV x1, iV 0, iV ((hA h (x0 + 3) 1) - 1)]) (rest := []) rfl (lw_S q1959 q1960 q129 q1961) hy_X4_within.2 rfl rfl (Nat.le_of_ble_eq_true rfl) (Nat.le_of_ble_eq_true rfl) (Nat.le_of_ble_eq_true rfl) (kkI (fun r17 m17 E17 hw => ?_))
    have hw := hw E17
    refine x_if_eq HE 27 dX4_isSpot_20 (by decide) (fun c20 => ?_) (fun c20 => ?_)
    · have hw := hw.1 c20
      exact w_X4_isSpot_27 HE hr f0 hw
    · have hw := hw.2 c20
      refine x_iconst HE dX4_isSpot_23 (by decide) ?_
      refine x_goto HE 28 dX4_isSpot_24 (by decide) ?_
      exact w_X4_isSpot_28 HE hr f0 hw
theorem k_X4_isSpot {G : GT} {x0 x1 : Int} {Q : Int → Hp → Prop} {h : Hp} (f0 : Lay_X4 h x0) (l : Launch) (hw : g_X4_isSpot x0 x1 Q h) : XM G l yX4_isSpot cX4_isSpot 2 (some .boolean) 1 22 [rV x0, iV x1] (QI Q) h :=
  XM.of (by decide) (Nat.le_of_ble_eq_true rfl) (fun X HE hr hn => w_X4_isSpot_0 HE hr f0 hw)
def g_X4_its (x0 x1 x2 : Int) (Q : Int → Hp → Prop) (h : Hp) : Prop :=
  (i32 (8 * x1)) ∧ ((i32 (12 + (8 * x1))) ∧ ((i32 ((12 + (8 * x1)) + x2)) ∧ (((0 : Int) ≤ ((12 + (8 * x1)) + x2) ∧ ((12 + (8 * x1)) + x2) < 108) ∧ (Q (hA h x0 ((12 + (8 * x1)) + x2)) h))))
theorem w_X4_its_0 {G : GT} {X : ET} {h0 : Hp} {x0 x1 x2 : Int} (HE : XE G X cX4_its 3 RX4 0 0 h0) (hr : XR X (some .int)) (f0 : (hT h0 x0 = 1 ∧ hL h0 x0 = 108)) {Q : Int → Hp → Prop} {h : Hp} (hw : g_X4_its x0 x1 x2 Q h) : Wx G X h0 (QI Q) h 0 [some (rV x0), some (iV x1), some (iV x2)] [] := by
  refine Wx.start (fun EB => ?_)
  unfold g_X4_its at hw
  refine x_aload_n HE 0 dX4_its_0 rfl rfl ?_
  refine x_bipush HE dX4_its_1 (by decide) ?_
  refine x_bipush HE dX4_its_3 (by decide) ?_
  refine x_iload_n HE 1 dX4_its_5 rfl rfl ?_
  obtain ⟨v6, hw⟩ := hw
  refine x_imul HE dX4_its_6 v6 ?_
  obtain ⟨v7, hw⟩ := hw
  refine x_iadd HE dX4_its_7 v7 ?_
  refine x_iload_n HE 2 dX4_its_8 rfl rfl ?_
  obtain ⟨v9, hw⟩ := hw
  refine x_iadd HE dX4_its_9 v9 ?_
  obtain ⟨i10, hw⟩ := hw
  refine x_iald HE dX4_its_10 (t := 1) (by decide) (EB.tag f0.1 (by decide)) (ix_of (EB.len (by rw [f0.1]; decide) f0.2) i10) rfl ?_
  exact x_iret HE hr dX4_its_11 hw
theorem k_X4_its {G : GT} {x0 x1 x2 : Int} {Q : Int → Hp → Prop} {h : Hp} (f0 : (hT h x0 = 1 ∧ hL h x0 = 108)) (l : Launch) (hw : g_X4_its x0 x1 x2 Q h) : XM G l yX4_its cX4_its 3 (some .int) 0 0 [rV x0, iV x1, iV x2] (QI Q) h :=
  XM.of (by decide) (Nat.le_of_ble_eq_true rfl) (fun X HE hr hn => w_X4_its_0 HE hr f0 hw)
def g_X4_isWaiting_b15 (x0 x1 : Int) (Q : Int → Hp → Prop) (s0 : Int) (h : Hp) : Prop :=
  (s0 = 0 ∨ s0 = 1) ∧ Q s0 h
theorem w_X4_isWaiting_15 {G : GT} {X : ET} {h0 : Hp} {x0 x1 : Int} (HE : XE G X cX4_isWaiting 2 RX4 1 22 h0) (hr : XR X (some .boolean)) (f0 : (hT h0 x0 = 1 ∧ hL h0 x0 = 108)) {Q : Int → Hp → Prop} {s0 : Int} {h : Hp} (hw : g_X4_isWaiting_b15 x0 x1 Q s0 h) : Wx G X h0 (QI Q) h 15 [some (rV x0), some (iV x1)] [iV s0] := by
  refine Wx.start (fun EB => ?_)
  unfold g_X4_isWaiting_b15 at hw
  exact x_zret HE hr dX4_isWaiting_15 hw.1 hw.2
def g_X4_isWaiting (x0 x1 : Int) (Q : Int → Hp → Prop) (h : Hp) : Prop :=
  g_X4_its x0 x1 0 (fun r3 m3 => Ext h m3 → (((r3 ≠ 1) → (g_X4_isWaiting_b15 x0 x1 Q 0 m3)) ∧ ((r3 = 1) → (g_X4_isWaiting_b15 x0 x1 Q 1 m3)))) h
theorem w_X4_isWaiting_0 {G : GT} {X : ET} {h0 : Hp} {x0 x1 : Int} (HE : XE G X cX4_isWaiting 2 RX4 1 22 h0) (hr : XR X (some .boolean)) (f0 : (hT h0 x0 = 1 ∧ hL h0 x0 = 108)) {Q : Int → Hp → Prop} {h : Hp} (hw : g_X4_isWaiting x0 x1 Q h) : Wx G X h0 (QI Q) h 0 [some (rV x0), some (iV x1)] [] := by
  refine Wx.start (fun EB => ?_)
  unfold g_X4_isWaiting at hw
  refine x_aload_n HE 0 dX4_isWaiting_0 rfl rfl ?_
  refine x_iload_n HE 1 dX4_isWaiting_1 rfl rfl ?_
  refine x_iconst HE dX4_isWaiting_2 (by decide) ?_
  refine x_callS HE dX4_isWaiting_3 rfl (fun l => k_X4_its ⟨(EB.tag f0.1 (by decide)), (EB.len (by rw [f0.1]; decide) f0.2)⟩ l hw) (As := [rV x0, iV x1, iV 0]) (rest := []) rfl (lw_S q2168 q2169 q129 q2170) hy_X4_its.2 rfl rfl (Nat.le_of_ble_eq_true rfl) (Nat.le_of_ble_eq_true rfl) (Nat.le_of_ble_eq_true rfl) (kkI (fun r3 m3 E3 hw => ?_))
  have hw := hw E3
  refine x_iconst HE dX4_isWaiting_6 (by decide) ?_
  refine x_ic_ne HE 14 dX4_isWaiting_7 (by decide) (fun c7 => ?_) (fun c7 => ?_)
  · have hw := hw.1 c7
    refine x_iconst HE dX4_isWaiting_14 (by decide) ?_
    exact w_X4_isWaiting_15 HE hr f0 hw
  · have hw := hw.2 c7
    refine x_iconst HE dX4_isWaiting_10 (by decide) ?_
    refine x_goto HE 15 dX4_isWaiting_11 (by decide) ?_
    exact w_X4_isWaiting_15 HE hr f0 hw
theorem k_X4_isWaiting {G : GT} {x0 x1 : Int} {Q : Int → Hp → Prop} {h : Hp} (f0 : (hT h x0 = 1 ∧ hL h x0 = 108)) (l : Launch) (hw : g_X4_isWaiting x0 x1 Q h) : XM G l yX4_isWaiting cX4_isWaiting 2 (some .boolean) 1 22 [rV x0, iV x1] (QI Q) h :=
  XM.of (by decide) (Nat.le_of_ble_eq_true rfl) (fun X HE hr hn => w_X4_isWaiting_0 HE hr f0 hw)
def g_X4_elbows_b70 (x0 x1 : Int) (Q : Int → Hp → Prop) (l2 : Int) (h : Hp) : Prop :=
  Q l2 h
theorem w_X4_elbows_70 {G : GT} {X : ET} {h0 : Hp} {x0 x1 : Int} (HE : XE G X cX4_elbows 4 RX4 2 43 h0) (hr : XR X (some .int)) (f0 : Lay_X4 h0 x0) {Q : Int → Hp → Prop} {l2 : Int} {h : Hp} (hw : g_X4_elbows_b70 x0 x1 Q l2 h) : Wx G X h0 (QI Q) h 70 [some (rV x0), some (iV x1), some (iV l2), none] [] := by
  refine Wx.start (fun EB => ?_)
  unfold g_X4_elbows_b70 at hw
  refine x_iload_n HE 2 dX4_elbows_70 rfl rfl ?_
  exact x_iret HE hr dX4_elbows_71 hw
def g_X4_elbows_b62 (x0 x1 : Int) (Q : Int → Hp → Prop) (K22 : Int → Int → Hp → Prop) (l3 s0 s1 : Int) (h : Hp) : Prop :=
  (i32 (s0 + s1)) ∧ (∀ y63 : Int, y63 = (s0 + s1) → ((i32 (l3 + 1)) ∧ (∀ y64 : Int, y64 = l3 + 1 → (K22 y63 y64 h))))
theorem w_X4_elbows_62 {G : GT} {X : ET} {h0 : Hp} {x0 x1 : Int} (HE : XE G X cX4_elbows 4 RX4 2 43 h0) (hr : XR X (some .int)) (f0 : Lay_X4 h0 x0) {Q : Int → Hp → Prop} {K22 : Int → Int → Hp → Prop} (hK22 : ∀ (l2 l3 : Int) (h : Hp), K22 l2 l3 h → Wx G X h0 (QI Q) h 22 [some (rV x0), some (iV x1), some (iV l2), some (iV l3)] []) {l3 s0 s1 : Int} {h : Hp} (hw : g_X4_elbows_b62 x0 x1 Q K22 l3 s0 s1 h) : Wx G X h0 (QI Q) h 62 [some (rV x0), some (iV x1), none, some (iV l3)] [iV s1, iV s0] := by
  refine Wx.start (fun EB => ?_)
  unfold g_X4_elbows_b62 at hw
  obtain ⟨v62, hw⟩ := hw
  refine x_iadd HE dX4_elbows_62 v62 ?_
  refine x_istore_nN HE 2 (fun y63 => [some (rV x0), some (iV x1), some (iV y63), some (iV l3)]) dX4_elbows_63 rfl (Nat.le_of_ble_eq_true rfl) (fun _ => rfl) (fun y63 ey63 => ?_)
  have hw := hw y63 ey63
  obtain ⟨v64, hw⟩ := hw
  refine x_iincN HE (fun y64 => [some (rV x0), some (iV x1), some (iV y63), some (iV y64)]) dX4_elbows_64 rfl v64 (Nat.le_of_ble_eq_true rfl) (fun _ => rfl) (fun y64 ey64 => ?_)
  have hw := hw y64 ey64
  refine x_goto HE 22 dX4_elbows_67 (by decide) ?_
  exact hK22 _ _ _ hw
def g_X4_elbows_b61 (x0 x1 : Int) (Q : Int → Hp → Prop) (K22 : Int → Int → Hp → Prop) (l3 s0 : Int) (h : Hp) : Prop :=
  g_X4_elbows_b62 x0 x1 Q K22 l3 s0 0 h
theorem w_X4_elbows_61 {G : GT} {X : ET} {h0 : Hp} {x0 x1 : Int} (HE : XE G X cX4_elbows 4 RX4 2 43 h0) (hr : XR X (some .int)) (f0 : Lay_X4 h0 x0) {Q : Int → Hp → Prop} {K22 : Int → Int → Hp → Prop} (hK22 : ∀ (l2 l3 : Int) (h : Hp), K22 l2 l3 h → Wx G X h0 (QI Q) h 22 [some (rV x0), some (iV x1), some (iV l2), some (iV l3)] []) {l3 s0 : Int} {h : Hp} (hw : g_X4_elbows_b61 x0 x1 Q K22 l3 s0 h) : Wx G X h0 (QI Q) h 61 [some (rV x0), some (iV x1), none, some (iV l3)] [iV s0] := by
  refine Wx.start (fun EB => ?_)
  unfold g_X4_elbows_b61 at hw
  refine x_iconst HE dX4_elbows_61 (by decide) ?_
  exact w_X4_elbows_62 HE hr f0 hK22 hw
def g_X4_elbows_L22 (x0 x1 : Int) (Q : Int → Hp → Prop) (K22 : Int → Int → Hp → Prop) (l2 l3 : Int) (h : Hp) : Prop :=
  (((hA h (x0 + 3) 5) ≤ l3) → (g_X4_elbows_b70 x0 x1 Q l2 h)) ∧ ((l3 < (hA h (x0 + 3) 5)) → (g_X4_isWaiting (x0 + 5) l3 (fun r38 m38 => Ext h m38 → (((r38 = 0) → (g_X4_elbows_b61 x0 x1 Q K22 l3 l2 m38)) ∧ ((r38 ≠ 0) → (g_X4_its (x0 + 5) l3 1 (fun r50 m50 => Ext m38 m50 → (((r50 ≠ x1) → (g_X4_elbows_b61 x0 x1 Q K22 l3 l2 m50)) ∧ ((r50 = x1) → (g_X4_elbows_b62 x0 x1 Q K22 l3 l2 1 m50)))) m38)))) h))
theorem w_X4_elbows_22 {G : GT} {X : ET} {h0 : Hp} {x0 x1 : Int} (HE : XE G X cX4_elbows 4 RX4 2 43 h0) (hr : XR X (some .int)) (f0 : Lay_X4 h0 x0) {Q : Int → Hp → Prop} {K22 : Int → Int → Hp → Prop} (hK22 : ∀ (l2 l3 : Int) (h : Hp), K22 l2 l3 h → Wx G X h0 (QI Q) h 22 [some (rV x0), some (iV x1), some (iV l2), some (iV l3)] []) {l2 l3 : Int} {h : Hp} (hw : g_X4_elbows_L22 x0 x1 Q K22 l2 l3 h) : Wx G X h0 (QI Q) h 22 [some (rV x0), some (iV x1), some (iV l2), some (iV l3)] [] := by
  refine Wx.start (fun EB => ?_)
  unfold g_X4_elbows_L22 at hw
  refine x_iload_n HE 3 dX4_elbows_22 rfl rfl ?_
  refine x_aload_n HE 0 dX4_elbows_23 rfl rfl ?_
  refine x_gR HE dX4_elbows_24 fd_X4_15 q1852 (Or.inl rfl) (Lay_X4.tag (f0.ext EB)) (Lay_X4_15 (f0.ext EB)).1 ?_
  refine x_iconst HE dX4_elbows_27 (by decide) ?_
  refine x_iald HE dX4_elbows_28 (t := 1) (by decide) ((Lay_X4_15 (f0.ext EB)).2.1) (ix_of ((Lay_X4_15 (f0.ext EB)).2.2) (by decide)) rfl ?_
  refine x_ic_ge HE 70 dX4_elbows_29 (by decide) (fun c29 => ?_) (fun c29 => ?_)
  · have hw := hw.1 c29
    refine Wx.mask [true, true, true, false] (lo2 := [some (rV x0), some (iV x1), some (iV l2), none]) rfl ?_
    exact w_X4_elbows_70 HE hr f0 hw
  · have hw := hw.2 c29
    refine x_iload_n HE 2 dX4_elbows_32 rfl rfl ?_
    refine x_aload_n HE 0 dX4_elbows_33 rfl rfl ?_
    refine x_gR HE dX4_elbows_34 fd_X4_17 q1854 (Or.inl rfl) (Lay_X4.tag (f0.ext EB)) (Lay_X4_17 (f0.ext EB)).1 ?_
    refine x_iload_n HE 3 dX4_elbows_37 rfl rfl ?_
    refine x_callS HE dX4_elbows_38 rfl (fun l => k_X4_isWaiting ⟨(Lay_X4_17 (f0.ext EB)).2.1, (Lay_X4_17 (f0.ext EB)).2.2⟩ l hw) (As := [rV (x0 + 5), iV l3]) (rest := [iV l2]) rfl (lw_S q2165 q2166 q129 q2167) hy_X4_isWaiting.2 rfl rfl (Nat.le_of_ble_eq_true rfl) (Nat.le_of_ble_eq_true rfl) (Nat.le_of_ble_eq_true rfl) (kkI (fun r38 m38 E38 hw => ?_))
    have hw := hw E38
    refine x_if_eq HE 61 dX4_elbows_41 (by decide) (fun c41 => ?_) (fun c41 => ?_)
    · have hw := hw.1 c41
      refine Wx.mask [true, true, false, true] (lo2 := [some (rV x0), some (iV x1), none, some (iV l3)]) rfl ?_
      exact w_X4_elbows_61 HE hr f0 hK22 hw
    · have hw := hw.2 c41
      refine x_aload_n HE 0 dX4_elbows_44 rfl rfl ?_
      refine x_gR HE dX4_elbows_45 fd_X4_17 q1854 (Or.inl rfl) (Lay_X4.tag (f0.ext (EB.tr E38))) (Lay_X4_17 (f0.ext (EB.tr E38))).1 ?_
      refine x_iload_n HE 3 dX4_elbows_48 rfl rfl ?_
      refine x_iconst HE dX4_elbows_49 (by decide) ?_
      refine x_callS HE dX4_elbows_50 rfl (fun l => k_X4_its ⟨(Lay_X4_17 (f0.ext (EB.tr E38))).2.1, (Lay_X4_17 (f0.ext (EB.tr E38))).2.2⟩ l hw) (As := [rV (x0 + 5), iV l3, iV 1]) (rest := [iV l2]) rfl (lw_S q2168 q2169 q129 q2170) hy_X4_its.2 rfl rfl (Nat.le_of_ble_eq_true rfl) (Nat.le_of_ble_eq_true rfl) (Nat.le_of_ble_eq_true rfl) (kkI (fun r50 m50 E50 hw => ?_))
      have hw := hw E50
      refine x_iload_n HE 1 dX4_elbows_53 rfl rfl ?_
      refine x_ic_ne HE 61 dX4_elbows_54 (by decide) (fun c54 => ?_) (fun c54 => ?_)
      · have hw := hw.1 c54
        refine Wx.mask [true, true, false, true] (lo2 := [some (rV x0), some (iV x1), none, some (iV l3)]) rfl ?_
        exact w_X4_elbows_61 HE hr f0 hK22 hw
      · have hw := hw.2 c54
        refine x_iconst HE dX4_elbows_57 (by decide) ?_
        refine x_goto HE 62 dX4_elbows_58 (by decide) ?_
        refine Wx.mask [true, true, false, true] (lo2 := [some (rV x0), some (iV x1), none, some (iV l3)]) rfl ?_
        exact w_X4_elbows_62 HE hr f0 hK22 hw
theorem wl_X4_elbows_22 {G : GT} {X : ET} {h0 : Hp} {x0 x1 : Int} (HE : XE G X cX4_elbows 4 RX4 2 43 h0) (hr : XR X (some .int)) (f0 : Lay_X4 h0 x0) {Q : Int → Hp → Prop} {l2 l3 : Int} {h : Hp} (hw : Lp2 (g_X4_elbows_L22 x0 x1 Q) l2 l3 h) : Wx G X h0 (QI Q) h 22 [some (rV x0), some (iV x1), some (iV l2), some (iV l3)] [] := by
  obtain ⟨n, hw⟩ := hw
  induction n generalizing l2 l3 h with
  | zero => exact hw.elim
  | succ n ih => exact w_X4_elbows_22 HE hr f0 (fun _ _ _ hk => ih hk) hw
def g_X4_elbows (x0 x1 : Int) (Q : Int → Hp → Prop) (h : Hp) : Prop :=
  g_X4_good x0 (fun m1 => Ext h m1 → (g_X4_isSpot x0 x1 (fun r6 m6 => Ext m1 m6 → (((r6 ≠ 0) → (Lp2 (g_X4_elbows_L22 x0 x1 Q) 0 0 m6)) ∧ ((r6 = 0) → (g_X4_no x0 1 (fun r14 m14 => Ext m6 m14 → (Q r14 m14)) m6)))) m1)) h
theorem w_X4_elbows_0 {G : GT} {X : ET} {h0 : Hp} {x0 x1 : Int} (HE : XE G X cX4_elbows 4 RX4 2 43 h0) (hr : XR X (some .int)) (f0 : Lay_X4 h0 x0) {Q : Int → Hp → Prop} {h : Hp} (hw : g_X4_elbows x0 x1 Q h) : Wx G X h0 (QI Q) h 0 [some (rV x0), some (iV x1), none, none] [] := by
  refine Wx.start (fun EB => ?_)
  unfold g_X4_elbows at hw
  refine x_aload_n HE 0 dX4_elbows_0 rfl rfl ?_
  refine x_callV HE dX4_elbows_1 rfl (fun l => k_X4_good (f0.ext EB) l hw) (As := []) (rest := []) rfl xc10 (Lay_X4.tag (f0.ext EB)) (lw_V q1955 q1957 qs55 q129 q1958) hy_X4_good rfl rfl (Nat.le_of_ble_eq_true rfl) (Nat.le_of_ble_eq_true rfl) (Nat.le_of_ble_eq_true rfl) (kkV (fun m1 E1 hw => ?_))
  have hw := hw E1
  refine x_aload_n HE 0 dX4_elbows_4 rfl rfl ?_
  refine x_iload_n HE 1 dX4_elbows_5 rfl rfl ?_
  refine x_callV HE dX4_elbows_6 rfl (fun l => k_X4_isSpot (f0.ext (EB.tr E1)) l hw) (As := [iV x1]) (rest := []) rfl xc10 (Lay_X4.tag (f0.ext (EB.tr E1))) (lw_V q2161 q2163 qs86 q129 q2164) hy_X4_isSpot rfl rfl (Nat.le_of_ble_eq_true rfl) (Nat.le_of_ble_eq_true rfl) (Nat.le_of_ble_eq_true rfl) (kkI (fun r6 m6 E6 hw => ?_))
  have hw := hw E6
  refine x_if_ne HE 18 dX4_elbows_9 (by decide) (fun c9 => ?_) (fun c9 => ?_)
  · have hw := hw.1 c9
    refine x_iconst HE dX4_elbows_18 (by decide) ?_
    refine x_istore_n HE 2 (lo' := [some (rV x0), some (iV x1), some (iV 0), none]) dX4_elbows_19 rfl (Nat.le_of_ble_eq_true rfl) rfl ?_
    refine x_iconst HE dX4_elbows_20 (by decide) ?_
    refine x_istore_n HE 3 (lo' := [some (rV x0), some (iV x1), some (iV 0), some (iV 0)]) dX4_elbows_21 rfl (Nat.le_of_ble_eq_true rfl) rfl ?_
    exact wl_X4_elbows_22 HE hr f0 hw
  · have hw := hw.2 c9
    refine x_aload_n HE 0 dX4_elbows_12 rfl rfl ?_
    refine x_iconst HE dX4_elbows_13 (by decide) ?_
    refine x_callV HE dX4_elbows_14 rfl (fun l => k_X4_no (f0.ext (EB.tr (E1.tr E6))) l hw) (As := [iV 1]) (rest := []) rfl xc10 (Lay_X4.tag (f0.ext (EB.tr (E1.tr E6)))) (lw_V q1962 q1964 qs56 q129 q1965) hy_X4_no rfl rfl (Nat.le_of_ble_eq_true rfl) (Nat.le_of_ble_eq_true rfl) (Nat.le_of_ble_eq_true rfl) (kkI (fun r14 m14 E14 hw => ?_))
    have hw := hw E14
    exact x_iret HE hr dX4_elbows_17 hw
theorem k_X4_elbows {G : GT} {x0 x1 : Int} {Q : Int → Hp → Prop} {h : Hp} (f0 : Lay_X4 h x0) (l : Launch) (hw : g_X4_elbows x0 x1 Q h) : XM G l yX4_elbows cX4_elbows 4 (some .int) 2 43 [rV x0, iV x1] (QI Q) h :=
  XM.of (by decide) (Nat.le_of_ble_eq_true rfl) (fun X HE hr hn => w_X4_elbows_0 HE hr f0 hw)
def g_X4_manyWaiting_b36 (x0 x1 : Int) (Q : Int → Hp → Prop) (l2 : Int) (h : Hp) : Prop :=
  Q l2 h
theorem w_X4_manyWaiting_36 {G : GT} {X : ET} {h0 : Hp} {x0 x1 : Int} (HE : XE G X cX4_manyWaiting 4 RX4 2 43 h0) (hr : XR X (some .int)) (f0 : Lay_X4 h0 x0) (f1 : (hT h0 x1 = 1 ∧ hL h0 x1 = 108)) {Q : Int → Hp → Prop} {l2 : Int} {h : Hp} (hw : g_X4_manyWaiting_b36 x0 x1 Q l2 h) : Wx G X h0 (QI Q) h 36 [some (rV x0), some (rV x1), some (iV l2), none] [] := by
  refine Wx.start (fun EB => ?_)
  unfold g_X4_manyWaiting_b36 at hw
  refine x_iload_n HE 2 dX4_manyWaiting_36 rfl rfl ?_
  exact x_iret HE hr dX4_manyWaiting_37 hw
def g_X4_manyWaiting_b28 (x0 x1 : Int) (Q : Int → Hp → Prop) (K4 : Int → Int → Hp → Prop) (l3 s0 s1 : Int) (h : Hp) : Prop :=
  (i32 (s0 + s1)) ∧ (∀ y29 : Int, y29 = (s0 + s1) → ((i32 (l3 + 1)) ∧ (∀ y30 : Int, y30 = l3 + 1 → (K4 y29 y30 h))))
theorem w_X4_manyWaiting_28 {G : GT} {X : ET} {h0 : Hp} {x0 x1 : Int} (HE : XE G X cX4_manyWaiting 4 RX4 2 43 h0) (hr : XR X (some .int)) (f0 : Lay_X4 h0 x0) (f1 : (hT h0 x1 = 1 ∧ hL h0 x1 = 108)) {Q : Int → Hp → Prop} {K4 : Int → Int → Hp → Prop} (hK4 : ∀ (l2 l3 : Int) (h : Hp), K4 l2 l3 h → Wx G X h0 (QI Q) h 4 [some (rV x0), some (rV x1), some (iV l2), some (iV l3)] []) {l3 s0 s1 : Int} {h : Hp} (hw : g_X4_manyWaiting_b28 x0 x1 Q K4 l3 s0 s1 h) : Wx G X h0 (QI Q) h 28 [some (rV x0), some (rV x1), none, some (iV l3)] [iV s1, iV s0] := by
  refine Wx.start (fun EB => ?_)
  unfold g_X4_manyWaiting_b28 at hw
  obtain ⟨v28, hw⟩ := hw
  refine x_iadd HE dX4_manyWaiting_28 v28 ?_
  refine x_istore_nN HE 2 (fun y29 => [some (rV x0), some (rV x1), some (iV y29), some (iV l3)]) dX4_manyWaiting_29 rfl (Nat.le_of_ble_eq_true rfl) (fun _ => rfl) (fun y29 ey29 => ?_)
  have hw := hw y29 ey29
  obtain ⟨v30, hw⟩ := hw
  refine x_iincN HE (fun y30 => [some (rV x0), some (rV x1), some (iV y29), some (iV y30)]) dX4_manyWaiting_30 rfl v30 (Nat.le_of_ble_eq_true rfl) (fun _ => rfl) (fun y30 ey30 => ?_)
  have hw := hw y30 ey30
  refine x_goto HE 4 dX4_manyWaiting_33 (by decide) ?_
  exact hK4 _ _ _ hw
def g_X4_manyWaiting_L4 (x0 x1 : Int) (Q : Int → Hp → Prop) (K4 : Int → Int → Hp → Prop) (l2 l3 : Int) (h : Hp) : Prop :=
  (((hA h (x0 + 3) 5) ≤ l3) → (g_X4_manyWaiting_b36 x0 x1 Q l2 h)) ∧ ((l3 < (hA h (x0 + 3) 5)) → (g_X4_isWaiting x1 l3 (fun r17 m17 => Ext h m17 → (((r17 = 0) → (g_X4_manyWaiting_b28 x0 x1 Q K4 l3 l2 0 m17)) ∧ ((r17 ≠ 0) → (g_X4_manyWaiting_b28 x0 x1 Q K4 l3 l2 1 m17)))) h))
theorem w_X4_manyWaiting_4 {G : GT} {X : ET} {h0 : Hp} {x0 x1 : Int} (HE : XE G X cX4_manyWaiting 4 RX4 2 43 h0) (hr : XR X (some .int)) (f0 : Lay_X4 h0 x0) (f1 : (hT h0 x1 = 1 ∧ hL h0 x1 = 108)) {Q : Int → Hp → Prop} {K4 : Int → Int → Hp → Prop} (hK4 : ∀ (l2 l3 : Int) (h : Hp), K4 l2 l3 h → Wx G X h0 (QI Q) h 4 [some (rV x0), some (rV x1), some (iV l2), some (iV l3)] []) {l2 l3 : Int} {h : Hp} (hw : g_X4_manyWaiting_L4 x0 x1 Q K4 l2 l3 h) : Wx G X h0 (QI Q) h 4 [some (rV x0), some (rV x1), some (iV l2), some (iV l3)] [] := by
  refine Wx.start (fun EB => ?_)
  unfold g_X4_manyWaiting_L4 at hw
  refine x_iload_n HE 3 dX4_manyWaiting_4 rfl rfl ?_
  refine x_aload_n HE 0 dX4_manyWaiting_5 rfl rfl ?_
  refine x_gR HE dX4_manyWaiting_6 fd_X4_15 q1852 (Or.inl rfl) (Lay_X4.tag (f0.ext EB)) (Lay_X4_15 (f0.ext EB)).1 ?_
  refine x_iconst HE dX4_manyWaiting_9 (by decide) ?_
  refine x_iald HE dX4_manyWaiting_10 (t := 1) (by decide) ((Lay_X4_15 (f0.ext EB)).2.1) (ix_of ((Lay_X4_15 (f0.ext EB)).2.2) (by decide)) rfl ?_
  refine x_ic_ge HE 36 dX4_manyWaiting_11 (by decide) (fun c11 => ?_) (fun c11 => ?_)
  · have hw := hw.1 c11
    refine Wx.mask [true, true, true, false] (lo2 := [some (rV x0), some (rV x1), some (iV l2), none]) rfl ?_
    exact w_X4_manyWaiting_36 HE hr f0 f1 hw
  · have hw := hw.2 c11
    refine x_iload_n HE 2 dX4_manyWaiting_14 rfl rfl ?_
    refine x_aload_n HE 1 dX4_manyWaiting_15 rfl rfl ?_
    refine x_iload_n HE 3 dX4_manyWaiting_16 rfl rfl ?_
    refine x_callS HE dX4_manyWaiting_17 rfl (fun l => k_X4_isWaiting ⟨(EB.tag f1.1 (by decide)), (EB.len (by rw [f1.1]; decide) f1.2)⟩ l hw) (As := [rV x1, iV l3]) (rest := [iV l2]) rfl (lw_S q2165 q2166 q129 q2167) hy_X4_isWaiting.2 rfl rfl (Nat.le_of_ble_eq_true rfl) (Nat.le_of_ble_eq_true rfl) (Nat.le_of_ble_eq_true rfl) (kkI (fun r17 m17 E17 hw => ?_))
    have hw := hw E17
    refine x_if_eq HE 27 dX4_manyWaiting_20 (by decide) (fun c20 => ?_) (fun c20 => ?_)
    · have hw := hw.1 c20
      refine x_iconst HE dX4_manyWaiting_27 (by decide) ?_
      refine Wx.mask [true, true, false, true] (lo2 := [some (rV x0), some (rV x1), none, some (iV l3)]) rfl ?_
      exact w_X4_manyWaiting_28 HE hr f0 f1 hK4 hw
    · have hw := hw.2 c20
      refine x_iconst HE dX4_manyWaiting_23 (by decide) ?_
      refine x_goto HE 28 dX4_manyWaiting_24 (by decide) ?_
      refine Wx.mask [true, true, false, true] (lo2 := [some (rV x0), some (rV x1), none, some (iV l3)]) rfl ?_
      exact w_X4_manyWaiting_28 HE hr f0 f1 hK4 hw
theorem wl_X4_manyWaiting_4 {G : GT} {X : ET} {h0 : Hp} {x0 x1 : Int} (HE : XE G X cX4_manyWaiting 4 RX4 2 43 h0) (hr : XR X (some .int)) (f0 : Lay_X4 h0 x0) (f1 : (hT h0 x1 = 1 ∧ hL h0 x1 = 108)) {Q : Int → Hp → Prop} {l2 l3 : Int} {h : Hp} (hw : Lp2 (g_X4_manyWaiting_L4 x0 x1 Q) l2 l3 h) : Wx G X h0 (QI Q) h 4 [some (rV x0), some (rV x1), some (iV l2), some (iV l3)] [] := by
  obtain ⟨n, hw⟩ := hw
  induction n generalizing l2 l3 h with
  | zero => exact hw.elim
  | succ n ih => exact w_X4_manyWaiting_4 HE hr f0 f1 (fun _ _ _ hk => ih hk) hw
def g_X4_manyWaiting (x0 x1 : Int) (Q : Int → Hp → Prop) (h : Hp) : Prop :=
  Lp2 (g_X4_manyWaiting_L4 x0 x1 Q) 0 0 h
theorem w_X4_manyWaiting_0 {G : GT} {X : ET} {h0 : Hp} {x0 x1 : Int} (HE : XE G X cX4_manyWaiting 4 RX4 2 43 h0) (hr : XR X (some .int)) (f0 : Lay_X4 h0 x0) (f1 : (hT h0 x1 = 1 ∧ hL h0 x1 = 108)) {Q : Int → Hp → Prop} {h : Hp} (hw : g_X4_manyWaiting x0 x1 Q h) : Wx G X h0 (QI Q) h 0 [some (rV x0), some (rV x1), none, none] [] := by
  refine Wx.start (fun EB => ?_)
  unfold g_X4_manyWaiting at hw
  refine x_iconst HE dX4_manyWaiting_0 (by decide) ?_
  refine x_istore_n HE 2 (lo' := [some (rV x0), some (rV x1), some (iV 0), none]) dX4_manyWaiting_1 rfl (Nat.le_of_ble_eq_true rfl) rfl ?_
  refine x_iconst HE dX4_manyWaiting_2 (by decide) ?_
  refine x_istore_n HE 3 (lo' := [some (rV x0), some (rV x1), some (iV 0), some (iV 0)]) dX4_manyWaiting_3 rfl (Nat.le_of_ble_eq_true rfl) rfl ?_
  exact wl_X4_manyWaiting_4 HE hr f0 f1 hw
theorem k_X4_manyWaiting {G : GT} {x0 x1 : Int} {Q : Int → Hp → Prop} {h : Hp} (f0 : Lay_X4 h x0) (f1 : (hT h x1 = 1 ∧ hL h x1 = 108)) (l : Launch) (hw : g_X4_manyWaiting x0 x1 Q h) : XM G l yX4_manyWaiting cX4_manyWaiting 4 (some .int) 2 43 [rV x0, rV x1] (QI Q) h :=
  XM.of (by decide) (Nat.le_of_ble_eq_true rfl) (fun X HE hr hn => w_X4_manyWaiting_0 HE hr f0 f1 hw)
def g_X4_waiting_b27 (x0 : Int) (Q : Int → Hp → Prop) (s0 : Int) (h : Hp) : Prop :=
  Q s0 h
theorem w_X4_waiting_27 {G : GT} {X : ET} {h0 : Hp} {x0 : Int} (HE : XE G X cX4_waiting 1 RX4 3 66 h0) (hr : XR X (some .int)) (f0 : Lay_X4 h0 x0) {Q : Int → Hp → Prop} {s0 : Int} {h : Hp} (hw : g_X4_waiting_b27 x0 Q s0 h) : Wx G X h0 (QI Q) h 27 [some (rV x0)] [iV s0] := by
  refine Wx.start (fun EB => ?_)
  unfold g_X4_waiting_b27 at hw
  exact x_iret HE hr dX4_waiting_27 hw
def g_X4_waiting (x0 : Int) (Q : Int → Hp → Prop) (h : Hp) : Prop :=
  g_X4_good x0 (fun m1 => Ext h m1 → ((((hF m1 x0 14) = 0) → (g_X4_no x0 1 (fun r24 m24 => Ext m1 m24 → (g_X4_waiting_b27 x0 Q r24 m24)) m1)) ∧ (((hF m1 x0 14) ≠ 0) → (g_X4_manyWaiting x0 (x0 + 5) (fun r16 m16 => Ext m1 m16 → (g_X4_waiting_b27 x0 Q r16 m16)) m1)))) h
theorem w_X4_waiting_0 {G : GT} {X : ET} {h0 : Hp} {x0 : Int} (HE : XE G X cX4_waiting 1 RX4 3 66 h0) (hr : XR X (some .int)) (f0 : Lay_X4 h0 x0) {Q : Int → Hp → Prop} {h : Hp} (hw : g_X4_waiting x0 Q h) : Wx G X h0 (QI Q) h 0 [some (rV x0)] [] := by
  refine Wx.start (fun EB => ?_)
  unfold g_X4_waiting at hw
  refine x_aload_n HE 0 dX4_waiting_0 rfl rfl ?_
  refine x_callV HE dX4_waiting_1 rfl (fun l => k_X4_good (f0.ext EB) l hw) (As := []) (rest := []) rfl xc10 (Lay_X4.tag (f0.ext EB)) (lw_V q1955 q1957 qs55 q129 q1958) hy_X4_good rfl rfl (Nat.le_of_ble_eq_true rfl) (Nat.le_of_ble_eq_true rfl) (Nat.le_of_ble_eq_true rfl) (kkV (fun m1 E1 hw => ?_))
  have hw := hw E1
  refine x_aload_n HE 0 dX4_waiting_4 rfl rfl ?_
  refine x_gI HE dX4_waiting_5 fd_X4_14 q1851 (Or.inl rfl) (Lay_X4.tag (f0.ext (EB.tr E1))) rfl ?_
  refine x_if_eq HE 22 dX4_waiting_8 (by decide) (fun c8 => ?_) (fun c8 => ?_)
  · have hw := hw.1 c8
    refine x_aload_n HE 0 dX4_waiting_22 rfl rfl ?_
    refine x_iconst HE dX4_waiting_23 (by decide) ?_
    refine x_callV HE dX4_waiting_24 rfl (fun l => k_X4_no (f0.ext (EB.tr E1)) l hw) (As := [iV 1]) (rest := []) rfl xc10 (Lay_X4.tag (f0.ext (EB.tr E1))) (lw_V q1962 q1964 qs56 q129 q1965) hy_X4_no rfl rfl (Nat.le_of_ble_eq_true rfl) (Nat.le_of_ble_eq_true rfl) (Nat.le_of_ble_eq_true rfl) (kkI (fun r24 m24 E24 hw => ?_))
    have hw := hw E24
    exact w_X4_waiting_27 HE hr f0 hw
  · have hw := hw.2 c8
    refine x_aload_n HE 0 dX4_waiting_11 rfl rfl ?_
    refine x_aload_n HE 0 dX4_waiting_12 rfl rfl ?_
    refine x_gR HE dX4_waiting_13 fd_X4_17 q1854 (Or.inl rfl) (Lay_X4.tag (f0.ext (EB.tr E1))) (Lay_X4_17 (f0.ext (EB.tr E1))).1 ?_
    refine x_callV HE dX4_waiting_16 rfl (fun l => k_X4_manyWaiting (f0.ext (EB.tr E1)) ⟨(Lay_X4_17 (f0.ext (EB.tr E1))).2.1, (Lay_X4_17 (f0.ext (EB.tr E1))).2.2⟩ l hw) (As := [rV (x0 + 5)]) (rest := []) rfl xc10 (Lay_X4.tag (f0.ext (EB.tr E1))) (lw_V q2175 q2177 qs87 q129 q2178) hy_X4_manyWaiting rfl rfl (Nat.le_of_ble_eq_true rfl) (Nat.le_of_ble_eq_true rfl) (Nat.le_of_ble_eq_true rfl) (kkI (fun r16 m16 E16 hw => ?_))
    have hw := hw E16
    refine x_goto HE 27 dX4_waiting_19 (by decide) ?_
    exact w_X4_waiting_27 HE hr f0 hw
theorem k_X4_waiting {G : GT} {x0 : Int} {Q : Int → Hp → Prop} {h : Hp} (f0 : Lay_X4 h x0) (l : Launch) (hw : g_X4_waiting x0 Q h) : XM G l yX4_waiting cX4_waiting 1 (some .int) 3 66 [rV x0] (QI Q) h :=
  XM.of (by decide) (Nat.le_of_ble_eq_true rfl) (fun X HE hr hn => w_X4_waiting_0 HE hr f0 hw)
def g_X4_far_b14 (x0 x1 : Int) (Q : Int → Hp → Prop) (s0 : Int) (h : Hp) : Prop :=
  Q s0 h
theorem w_X4_far_14 {G : GT} {X : ET} {h0 : Hp} {x0 x1 : Int} (HE : XE G X cX4_far 2 RX4 0 0 h0) (hr : XR X (some .int)) {Q : Int → Hp → Prop} {s0 : Int} {h : Hp} (hw : g_X4_far_b14 x0 x1 Q s0 h) : Wx G X h0 (QI Q) h 14 [some (iV x0), some (iV x1)] [iV s0] := by
  refine Wx.start (fun EB => ?_)
  unfold g_X4_far_b14 at hw
  exact x_iret HE hr dX4_far_14 hw
def g_X4_far (x0 x1 : Int) (Q : Int → Hp → Prop) (h : Hp) : Prop :=
  ((x1 ≤ x0) → ((i32 (x0 - x1)) ∧ (g_X4_far_b14 x0 x1 Q (x0 - x1) h))) ∧ ((x0 < x1) → ((i32 (x1 - x0)) ∧ (g_X4_far_b14 x0 x1 Q (x1 - x0) h)))
theorem w_X4_far_0 {G : GT} {X : ET} {h0 : Hp} {x0 x1 : Int} (HE : XE G X cX4_far 2 RX4 0 0 h0) (hr : XR X (some .int)) {Q : Int → Hp → Prop} {h : Hp} (hw : g_X4_far x0 x1 Q h) : Wx G X h0 (QI Q) h 0 [some (iV x0), some (iV x1)] [] := by
  refine Wx.start (fun EB => ?_)
  unfold g_X4_far at hw
  refine x_iload_n HE 0 dX4_far_0 rfl rfl ?_
  refine x_iload_n HE 1 dX4_far_1 rfl rfl ?_
  refine x_ic_ge HE 11 dX4_far_2 (by decide) (fun c2 => ?_) (fun c2 => ?_)
  · have hw := hw.1 c2
    refine x_iload_n HE 0 dX4_far_11 rfl rfl ?_
    refine x_iload_n HE 1 dX4_far_12 rfl rfl ?_
    obtain ⟨v13, hw⟩ := hw
    refine x_isub HE dX4_far_13 v13 ?_
    exact w_X4_far_14 HE hr hw
  · have hw := hw.2 c2
    refine x_iload_n HE 1 dX4_far_5 rfl rfl ?_
    refine x_iload_n HE 0 dX4_far_6 rfl rfl ?_
    obtain ⟨v7, hw⟩ := hw
    refine x_isub HE dX4_far_7 v7 ?_
    refine x_goto HE 14 dX4_far_8 (by decide) ?_
    exact w_X4_far_14 HE hr hw
theorem k_X4_far {G : GT} {x0 x1 : Int} {Q : Int → Hp → Prop} {h : Hp} (l : Launch) (hw : g_X4_far x0 x1 Q h) : XM G l yX4_far cX4_far 2 (some .int) 0 0 [iV x0, iV x1] (QI Q) h :=
  XM.of (by decide) (Nat.le_of_ble_eq_true rfl) (fun X HE hr hn => w_X4_far_0 HE hr  hw)
def g_X4_turn_b135 (x0 x1 x2 x3 : Int) (Q : Int → Hp → Prop) (s0 : Int) (h : Hp) : Prop :=
  Q s0 h
theorem w_X4_turn_135 {G : GT} {X : ET} {h0 : Hp} {x0 x1 x2 x3 : Int} (HE : XE G X cX4_turn 6 RX4 1 22 h0) (hr : XR X (some .int)) (f0 : Lay_X4 h0 x0) (f1 : (hT h0 x1 = 1 ∧ hL h0 x1 = 108)) {Q : Int → Hp → Prop} {s0 : Int} {h : Hp} (hw : g_X4_turn_b135 x0 x1 x2 x3 Q s0 h) : Wx G X h0 (QI Q) h 135 [some (rV x0), some (rV x1), some (iV x2), some (iV x3), none, none] [iV s0] := by
  refine Wx.start (fun EB => ?_)
  unfold g_X4_turn_b135 at hw
  exact x_iret HE hr dX4_turn_135 hw
def g_X4_turn_b103 (x0 x1 x2 x3 : Int) (Q : Int → Hp → Prop) (s0 s1 : Int) (h : Hp) : Prop :=
  (i32 (s0 + s1)) ∧ (Q (s0 + s1) h)
theorem w_X4_turn_103 {G : GT} {X : ET} {h0 : Hp} {x0 x1 x2 x3 : Int} (HE : XE G X cX4_turn 6 RX4 1 22 h0) (hr : XR X (some .int)) (f0 : Lay_X4 h0 x0) (f1 : (hT h0 x1 = 1 ∧ hL h0 x1 = 108)) {Q : Int → Hp → Prop} {s0 s1 : Int} {h : Hp} (hw : g_X4_turn_b103 x0 x1 x2 x3 Q s0 s1 h) : Wx G X h0 (QI Q) h 103 [some (rV x0), some (rV x1), some (iV x2), some (iV x3), none, none] [iV s1, iV s0] := by
  refine Wx.start (fun EB => ?_)
  unfold g_X4_turn_b103 at hw
  obtain ⟨v103, hw⟩ := hw
  refine x_iadd HE dX4_turn_103 v103 ?_
  exact x_iret HE hr dX4_turn_104 hw
def g_X4_turn_b81 (x0 x1 x2 x3 : Int) (Q : Int → Hp → Prop) (s0 : Int) (h : Hp) : Prop :=
  Q s0 h
theorem w_X4_turn_81 {G : GT} {X : ET} {h0 : Hp} {x0 x1 x2 x3 : Int} (HE : XE G X cX4_turn 6 RX4 1 22 h0) (hr : XR X (some .int)) (f0 : Lay_X4 h0 x0) (f1 : (hT h0 x1 = 1 ∧ hL h0 x1 = 108)) {Q : Int → Hp → Prop} {s0 : Int} {h : Hp} (hw : g_X4_turn_b81 x0 x1 x2 x3 Q s0 h) : Wx G X h0 (QI Q) h 81 [some (rV x0), some (rV x1), some (iV x2), some (iV x3), none, none] [iV s0] := by
  refine Wx.start (fun EB => ?_)
  unfold g_X4_turn_b81 at hw
  exact x_iret HE hr dX4_turn_81 hw
def g_X4_turn (x0 x1 x2 x3 : Int) (Q : Int → Hp → Prop) (h : Hp) : Prop :=
  (i32 (4 * x2)) ∧ ((i32 (92 + (4 * x2))) ∧ (((0 : Int) ≤ (92 + (4 * x2)) ∧ (92 + (4 * x2)) < 108) ∧ (∀ y8 : Int, y8 = (hA h x1 (92 + (4 * x2))) → (g_X4_its x1 x3 1 (fun r13 m13 => Ext h m13 → ((i32 (6 * x2)) ∧ ((i32 ((6 * x2) + 0)) ∧ (((0 : Int) ≤ ((6 * x2) + 0) ∧ ((6 * x2) + 0) < 24) ∧ ((((hA m13 (x0 + 9) ((6 * x2) + 0)) = 0) → (((r13 < y8) → ((i32 (1000000 + r13)) ∧ (g_X4_turn_b81 x0 x1 x2 x3 Q (1000000 + r13) m13))) ∧ ((y8 ≤ r13) → ((i32 (r13 - y8)) ∧ (g_X4_turn_b81 x0 x1 x2 x3 Q (r13 - y8) m13))))) ∧ (((hA m13 (x0 + 9) ((6 * x2) + 0)) = 1) → (g_X4_far r13 y8 (fun r87 m87 => Ext m13 m87 → ((i32 (2 * r87)) ∧ (((r13 ≤ y8) → (g_X4_turn_b103 x0 x1 x2 x3 Q (2 * r87) 0 m87)) ∧ ((y8 < r13) → (g_X4_turn_b103 x0 x1 x2 x3 Q (2 * r87) 1 m87))))) m13)) ∧ (((hA m13 (x0 + 9) ((6 * x2) + 0)) = 2) → (g_X4_its x1 x3 2 (fun r108 m108 => Ext m13 m108 → ((i32 (-r108)) ∧ (Q (-r108) m108))) m13)) ∧ (((hA m13 (x0 + 9) ((6 * x2) + 0)) = 3) → (g_X4_its x1 x3 3 (fun r116 m116 => Ext m13 m116 → (Q r116 m116)) m13)) ∧ (((hA m13 (x0 + 9) ((6 * x2) + 0)) ≠ 0 ∧ (hA m13 (x0 + 9) ((6 * x2) + 0)) ≠ 1 ∧ (hA m13 (x0 + 9) ((6 * x2) + 0)) ≠ 2 ∧ (hA m13 (x0 + 9) ((6 * x2) + 0)) ≠ 3) → (g_X4_man x0 x3 0 (fun r123 m123 => Ext m13 m123 → (((r123 ≠ 3) → (g_X4_turn_b135 x0 x1 x2 x3 Q 1 m123)) ∧ ((r123 = 3) → (g_X4_turn_b135 x0 x1 x2 x3 Q 0 m123)))) m13))))))) h))))
theorem w_X4_turn_0 {G : GT} {X : ET} {h0 : Hp} {x0 x1 x2 x3 : Int} (HE : XE G X cX4_turn 6 RX4 1 22 h0) (hr : XR X (some .int)) (f0 : Lay_X4 h0 x0) (f1 : (hT h0 x1 = 1 ∧ hL h0 x1 = 108)) {Q : Int → Hp → Prop} {h : Hp} (hw : g_X4_turn x0 x1 x2 x3 Q h) : Wx G X h0 (QI Q) h 0 [some (rV x0), some (rV x1), some (iV x2), some (iV x3), none, none] [] := by
  refine Wx.start (fun EB => ?_)
  unfold g_X4_turn at hw
  refine x_aload_n HE 1 dX4_turn_0 rfl rfl ?_
  refine x_bipush HE dX4_turn_1 (by decide) ?_
  refine x_iconst HE dX4_turn_3 (by decide) ?_
  refine x_iload_n HE 2 dX4_turn_4 rfl rfl ?_
  obtain ⟨v5, hw⟩ := hw
  refine x_imul HE dX4_turn_5 v5 ?_
  obtain ⟨v6, hw⟩ := hw
  refine x_iadd HE dX4_turn_6 v6 ?_
  obtain ⟨i7, hw⟩ := hw
  refine x_iald HE dX4_turn_7 (t := 1) (by decide) (EB.tag f1.1 (by decide)) (ix_of (EB.len (by rw [f1.1]; decide) f1.2) i7) rfl ?_
  refine x_istoreN HE (fun y8 => [some (rV x0), some (rV x1), some (iV x2), some (iV x3), some (iV y8), none]) dX4_turn_8 (Nat.le_of_ble_eq_true rfl) (fun _ => rfl) (fun y8 ey8 => ?_)
  have hw := hw y8 ey8
  refine x_aload_n HE 1 dX4_turn_10 rfl rfl ?_
  refine x_iload_n HE 3 dX4_turn_11 rfl rfl ?_
  refine x_iconst HE dX4_turn_12 (by decide) ?_
  refine x_callS HE dX4_turn_13 rfl (fun l => k_X4_its ⟨(EB.tag f1.1 (by decide)), (EB.len (by rw [f1.1]; decide) f1.2)⟩ l hw) (As := [rV x1, iV x3, iV 1]) (rest := []) rfl (lw_S q2168 q2169 q129 q2170) hy_X4_its.2 rfl rfl (Nat.le_of_ble_eq_true rfl) (Nat.le_of_ble_eq_true rfl) (Nat.le_of_ble_eq_true rfl) (kkI (fun r13 m13 E13 hw => ?_))
  have hw := hw E13
  refine x_istore HE (lo' := [some (rV x0), some (rV x1), some (iV x2), some (iV x3), some (iV y8), some (iV r13)]) dX4_turn_16 (Nat.le_of_ble_eq_true rfl) rfl ?_
  refine x_aload_n HE 0 dX4_turn_18 rfl rfl ?_
  refine x_gR HE dX4_turn_19 fd_X4_23 q1860 (Or.inl rfl) (Lay_X4.tag (f0.ext (EB.tr E13))) (Lay_X4_23 (f0.ext (EB.tr E13))).1 ?_
  refine x_bipush HE dX4_turn_22 (by decide) ?_
  refine x_iload_n HE 2 dX4_turn_24 rfl rfl ?_
  obtain ⟨v25, hw⟩ := hw
  refine x_imul HE dX4_turn_25 v25 ?_
  refine x_iconst HE dX4_turn_26 (by decide) ?_
  obtain ⟨v27, hw⟩ := hw
  refine x_iadd HE dX4_turn_27 v27 ?_
  obtain ⟨i28, hw⟩ := hw
  refine x_iald HE dX4_turn_28 (t := 1) (by decide) ((Lay_X4_23 (f0.ext (EB.tr E13))).2.1) (ix_of ((Lay_X4_23 (f0.ext (EB.tr E13))).2.2) i28) rfl ?_
  by_cases s29_0 : (hA m13 (x0 + 9) ((6 * x2) + 0)) = 0
  · have hw := hw.1 s29_0
    refine x_tabIn HE 60 dX4_turn_29 0 s29_0 (by decide) rfl (by decide) ?_
    refine x_iload HE dX4_turn_60 rfl ?_
    refine x_iload HE dX4_turn_62 rfl ?_
    refine x_ic_lt HE 75 dX4_turn_64 (by decide) (fun c64 => ?_) (fun c64 => ?_)
    · have hw := hw.1 c64
      refine x_ldcwI (n := 1000000) HE dX4_turn_75 q2156 (by unfold i32; decide) rfl ?_
      refine x_iload HE dX4_turn_78 rfl ?_
      obtain ⟨v80, hw⟩ := hw
      refine x_iadd HE dX4_turn_80 v80 ?_
      refine Wx.mask [true, true, true, true, false, false] (lo2 := [some (rV x0), some (rV x1), some (iV x2), some (iV x3), none, none]) rfl ?_
      exact w_X4_turn_81 HE hr f0 f1 hw
    · have hw := hw.2 c64
      refine x_iload HE dX4_turn_67 rfl ?_
      refine x_iload HE dX4_turn_69 rfl ?_
      obtain ⟨v71, hw⟩ := hw
      refine x_isub HE dX4_turn_71 v71 ?_
      refine x_goto HE 81 dX4_turn_72 (by decide) ?_
      refine Wx.mask [true, true, true, true, false, false] (lo2 := [some (rV x0), some (rV x1), some (iV x2), some (iV x3), none, none]) rfl ?_
      exact w_X4_turn_81 HE hr f0 f1 hw
  have hw := hw.2
  by_cases s29_1 : (hA m13 (x0 + 9) ((6 * x2) + 0)) = 1
  · have hw := hw.1 s29_1
    refine x_tabIn HE 82 dX4_turn_29 1 s29_1 (by decide) rfl (by decide) ?_
    refine x_iconst HE dX4_turn_82 (by decide) ?_
    refine x_iload HE dX4_turn_83 rfl ?_
    refine x_iload HE dX4_turn_85 rfl ?_
    refine x_callS HE dX4_turn_87 rfl (fun l => k_X4_far  l hw) (As := [iV r13, iV y8]) (rest := [iV 2]) rfl (lw_S q2191 q2192 q129 q2193) hy_X4_far.2 rfl rfl (Nat.le_of_ble_eq_true rfl) (Nat.le_of_ble_eq_true rfl) (Nat.le_of_ble_eq_true rfl) (kkI (fun r87 m87 E87 hw => ?_))
    have hw := hw E87
    obtain ⟨v90, hw⟩ := hw
    refine x_imul HE dX4_turn_90 v90 ?_
    refine x_iload HE dX4_turn_91 rfl ?_
    refine x_iload HE dX4_turn_93 rfl ?_
    refine x_ic_le HE 102 dX4_turn_95 (by decide) (fun c95 => ?_) (fun c95 => ?_)
    · have hw := hw.1 c95
      refine x_iconst HE dX4_turn_102 (by decide) ?_
      refine Wx.mask [true, true, true, true, false, false] (lo2 := [some (rV x0), some (rV x1), some (iV x2), some (iV x3), none, none]) rfl ?_
      exact w_X4_turn_103 HE hr f0 f1 hw
    · have hw := hw.2 c95
      refine x_iconst HE dX4_turn_98 (by decide) ?_
      refine x_goto HE 103 dX4_turn_99 (by decide) ?_
      refine Wx.mask [true, true, true, true, false, false] (lo2 := [some (rV x0), some (rV x1), some (iV x2), some (iV x3), none, none]) rfl ?_
      exact w_X4_turn_103 HE hr f0 f1 hw
  have hw := hw.2
  by_cases s29_2 : (hA m13 (x0 + 9) ((6 * x2) + 0)) = 2
  · have hw := hw.1 s29_2
    refine x_tabIn HE 105 dX4_turn_29 2 s29_2 (by decide) rfl (by decide) ?_
    refine x_aload_n HE 1 dX4_turn_105 rfl rfl ?_
    refine x_iload_n HE 3 dX4_turn_106 rfl rfl ?_
    refine x_iconst HE dX4_turn_107 (by decide) ?_
    refine x_callS HE dX4_turn_108 rfl (fun l => k_X4_its ⟨((EB.tr E13).tag f1.1 (by decide)), ((EB.tr E13).len (by rw [f1.1]; decide) f1.2)⟩ l hw) (As := [rV x1, iV x3, iV 2]) (rest := []) rfl (lw_S q2168 q2169 q129 q2170) hy_X4_its.2 rfl rfl (Nat.le_of_ble_eq_true rfl) (Nat.le_of_ble_eq_true rfl) (Nat.le_of_ble_eq_true rfl) (kkI (fun r108 m108 E108 hw => ?_))
    have hw := hw E108
    obtain ⟨v111, hw⟩ := hw
    refine x_ineg HE dX4_turn_111 v111 ?_
    exact x_iret HE hr dX4_turn_112 hw
  have hw := hw.2
  by_cases s29_3 : (hA m13 (x0 + 9) ((6 * x2) + 0)) = 3
  · have hw := hw.1 s29_3
    refine x_tabIn HE 113 dX4_turn_29 3 s29_3 (by decide) rfl (by decide) ?_
    refine x_aload_n HE 1 dX4_turn_113 rfl rfl ?_
    refine x_iload_n HE 3 dX4_turn_114 rfl rfl ?_
    refine x_iconst HE dX4_turn_115 (by decide) ?_
    refine x_callS HE dX4_turn_116 rfl (fun l => k_X4_its ⟨((EB.tr E13).tag f1.1 (by decide)), ((EB.tr E13).len (by rw [f1.1]; decide) f1.2)⟩ l hw) (As := [rV x1, iV x3, iV 3]) (rest := []) rfl (lw_S q2168 q2169 q129 q2170) hy_X4_its.2 rfl rfl (Nat.le_of_ble_eq_true rfl) (Nat.le_of_ble_eq_true rfl) (Nat.le_of_ble_eq_true rfl) (kkI (fun r116 m116 E116 hw => ?_))
    have hw := hw E116
    exact x_iret HE hr dX4_turn_119 hw
  have hw := hw.2
  have hw := hw ⟨s29_0, s29_1, s29_2, s29_3⟩
  refine x_tabOut HE 120 dX4_turn_29 (tabE (tabS (b := 4) (tabS (b := 3) (tabS (b := 2) (tabS (b := 1) (Int.lt_or_le (hA m13 (x0 + 9) ((6 * x2) + 0)) 0) (by decide) s29_0) (by decide) s29_1) (by decide) s29_2) (by decide) s29_3) (by decide)) (by decide) ?_
  refine x_aload_n HE 0 dX4_turn_120 rfl rfl ?_
  refine x_iload_n HE 3 dX4_turn_121 rfl rfl ?_
  refine x_iconst HE dX4_turn_122 (by decide) ?_
  refine x_callV HE dX4_turn_123 rfl (fun l => k_X4_man (f0.ext (EB.tr E13)) l hw) (As := [iV x3, iV 0]) (rest := []) rfl xc10 (Lay_X4.tag (f0.ext (EB.tr E13))) (lw_V q2124 q2126 qs82 q129 q2127) hy_X4_man rfl rfl (Nat.le_of_ble_eq_true rfl) (Nat.le_of_ble_eq_true rfl) (Nat.le_of_ble_eq_true rfl) (kkI (fun r123 m123 E123 hw => ?_))
  have hw := hw E123
  refine x_iconst HE dX4_turn_126 (by decide) ?_
  refine x_ic_ne HE 134 dX4_turn_127 (by decide) (fun c127 => ?_) (fun c127 => ?_)
  · have hw := hw.1 c127
    refine x_iconst HE dX4_turn_134 (by decide) ?_
    refine Wx.mask [true, true, true, true, false, false] (lo2 := [some (rV x0), some (rV x1), some (iV x2), some (iV x3), none, none]) rfl ?_
    exact w_X4_turn_135 HE hr f0 f1 hw
  · have hw := hw.2 c127
    refine x_iconst HE dX4_turn_130 (by decide) ?_
    refine x_goto HE 135 dX4_turn_131 (by decide) ?_
    refine Wx.mask [true, true, true, true, false, false] (lo2 := [some (rV x0), some (rV x1), some (iV x2), some (iV x3), none, none]) rfl ?_
    exact w_X4_turn_135 HE hr f0 f1 hw
theorem k_X4_turn {G : GT} {x0 x1 x2 x3 : Int} {Q : Int → Hp → Prop} {h : Hp} (f0 : Lay_X4 h x0) (f1 : (hT h x1 = 1 ∧ hL h x1 = 108)) (l : Launch) (hw : g_X4_turn x0 x1 x2 x3 Q h) : XM G l yX4_turn cX4_turn 6 (some .int) 1 22 [rV x0, rV x1, iV x2, iV x3] (QI Q) h :=
  XM.of (by decide) (Nat.le_of_ble_eq_true rfl) (fun X HE hr hn => w_X4_turn_0 HE hr f0 f1 hw)
def g_X4_nextFor_b134 (x0 x1 x2 : Int) (Q : Int → Hp → Prop) (l3 : Int) (h : Hp) : Prop :=
  Q l3 h
theorem w_X4_nextFor_134 {G : GT} {X : ET} {h0 : Hp} {x0 x1 x2 : Int} (HE : XE G X cX4_nextFor 7 RX4 2 47 h0) (hr : XR X (some .int)) (f0 : Lay_X4 h0 x0) (f1 : (hT h0 x1 = 1 ∧ hL h0 x1 = 108)) {Q : Int → Hp → Prop} {l3 : Int} {h : Hp} (hw : g_X4_nextFor_b134 x0 x1 x2 Q l3 h) : Wx G X h0 (QI Q) h 134 [some (rV x0), some (rV x1), some (iV x2), some (iV l3), none, none, none] [] := by
  refine Wx.start (fun EB => ?_)
  unfold g_X4_nextFor_b134 at hw
  refine x_iload_n HE 3 dX4_nextFor_134 rfl rfl ?_
  exact x_iret HE hr dX4_nextFor_135 hw
def g_X4_nextFor_b128 (x0 x1 x2 : Int) (Q : Int → Hp → Prop) (K6 : Int → Int → Hp → Prop) (l3 l4 : Int) (h : Hp) : Prop :=
  (i32 (l4 + 1)) ∧ (∀ y128 : Int, y128 = l4 + 1 → (K6 l3 y128 h))
theorem w_X4_nextFor_128 {G : GT} {X : ET} {h0 : Hp} {x0 x1 x2 : Int} (HE : XE G X cX4_nextFor 7 RX4 2 47 h0) (hr : XR X (some .int)) (f0 : Lay_X4 h0 x0) (f1 : (hT h0 x1 = 1 ∧ hL h0 x1 = 108)) {Q : Int → Hp → Prop} {K6 : Int → Int → Hp → Prop} (hK6 : ∀ (l3 l4 : Int) (h : Hp), K6 l3 l4 h → Wx G X h0 (QI Q) h 6 [some (rV x0), some (rV x1), some (iV x2), some (iV l3), some (iV l4), none, none] []) {l3 l4 : Int} {h : Hp} (hw : g_X4_nextFor_b128 x0 x1 x2 Q K6 l3 l4 h) : Wx G X h0 (QI Q) h 128 [some (rV x0), some (rV x1), some (iV x2), some (iV l3), some (iV l4), none, none] [] := by
  refine Wx.start (fun EB => ?_)
  unfold g_X4_nextFor_b128 at hw
  obtain ⟨v128, hw⟩ := hw
  refine x_iincN HE (fun y128 => [some (rV x0), some (rV x1), some (iV x2), some (iV l3), some (iV y128), none, none]) dX4_nextFor_128 rfl v128 (Nat.le_of_ble_eq_true rfl) (fun _ => rfl) (fun y128 ey128 => ?_)
  have hw := hw y128 ey128
  refine x_goto HE 6 dX4_nextFor_131 (by decide) ?_
  exact hK6 _ _ _ hw
def g_X4_nextFor_b125 (x0 x1 x2 : Int) (Q : Int → Hp → Prop) (K6 : Int → Int → Hp → Prop) (l4 : Int) (h : Hp) : Prop :=
  g_X4_nextFor_b128 x0 x1 x2 Q K6 l4 l4 h
theorem w_X4_nextFor_125 {G : GT} {X : ET} {h0 : Hp} {x0 x1 x2 : Int} (HE : XE G X cX4_nextFor 7 RX4 2 47 h0) (hr : XR X (some .int)) (f0 : Lay_X4 h0 x0) (f1 : (hT h0 x1 = 1 ∧ hL h0 x1 = 108)) {Q : Int → Hp → Prop} {K6 : Int → Int → Hp → Prop} (hK6 : ∀ (l3 l4 : Int) (h : Hp), K6 l3 l4 h → Wx G X h0 (QI Q) h 6 [some (rV x0), some (rV x1), some (iV x2), some (iV l3), some (iV l4), none, none] []) {l4 : Int} {h : Hp} (hw : g_X4_nextFor_b125 x0 x1 x2 Q K6 l4 h) : Wx G X h0 (QI Q) h 125 [some (rV x0), some (rV x1), some (iV x2), none, some (iV l4), none, none] [] := by
  refine Wx.start (fun EB => ?_)
  unfold g_X4_nextFor_b125 at hw
  refine x_iload HE dX4_nextFor_125 rfl ?_
  refine x_istore_n HE 3 (lo' := [some (rV x0), some (rV x1), some (iV x2), some (iV l4), some (iV l4), none, none]) dX4_nextFor_127 rfl (Nat.le_of_ble_eq_true rfl) rfl ?_
  exact w_X4_nextFor_128 HE hr f0 f1 hK6 hw
def g_X4_nextFor_L6 (x0 x1 x2 : Int) (Q : Int → Hp → Prop) (K6 : Int → Int → Hp → Prop) (l3 l4 : Int) (h : Hp) : Prop :=
  (((hA h (x0 + 3) 5) ≤ l4) → (g_X4_nextFor_b134 x0 x1 x2 Q l3 h)) ∧ ((l4 < (hA h (x0 + 3) 5)) → (g_X4_isWaiting x1 l4 (fun r20 m20 => Ext h m20 → (((r20 = 0) → (g_X4_nextFor_b128 x0 x1 x2 Q K6 l3 l4 m20)) ∧ ((r20 ≠ 0) → (g_X4_its x1 l4 1 (fun r30 m30 => Ext m20 m30 → ((i32 (6 * x2)) ∧ ((i32 ((6 * x2) + 2)) ∧ (((0 : Int) ≤ ((6 * x2) + 2) ∧ ((6 * x2) + 2) < 24) ∧ ((i32 (6 * x2)) ∧ ((i32 ((6 * x2) + 3)) ∧ (((0 : Int) ≤ ((6 * x2) + 3) ∧ ((6 * x2) + 3) < 24) ∧ (g_X4_within r30 (hA m30 (x0 + 9) ((6 * x2) + 2)) (hA m30 (x0 + 9) ((6 * x2) + 3)) (fun r55 m55 => Ext m30 m55 → (((r55 ≠ 0) → (((l3 ≠ (-2)) → (g_X4_turn x0 x1 x2 l4 (fun r81 m81 => Ext m55 m81 → (g_X4_turn x0 x1 x2 l3 (fun r90 m90 => Ext m81 m90 → (((r81 < r90) → (g_X4_nextFor_b125 x0 x1 x2 Q K6 l4 m90)) ∧ ((r90 ≤ r81) → (((r81 ≠ r90) → (g_X4_nextFor_b128 x0 x1 x2 Q K6 l3 l4 m90)) ∧ ((r81 = r90) → (g_X4_man x0 l4 2 (fun r113 m113 => Ext m90 m113 → (g_X4_man x0 l3 2 (fun r119 m119 => Ext m113 m119 → (((r119 ≤ r113) → (g_X4_nextFor_b128 x0 x1 x2 Q K6 l3 l4 m119)) ∧ ((r113 < r119) → (g_X4_nextFor_b125 x0 x1 x2 Q K6 l4 m119)))) m113)) m90)))))) m81)) m55)) ∧ ((l3 = (-2)) → (g_X4_nextFor_b128 x0 x1 x2 Q K6 l4 l4 m55)))) ∧ ((r55 = 0) → (g_X4_nextFor_b128 x0 x1 x2 Q K6 l3 l4 m55)))) m30)))))))) m20)))) h))
theorem w_X4_nextFor_6 {G : GT} {X : ET} {h0 : Hp} {x0 x1 x2 : Int} (HE : XE G X cX4_nextFor 7 RX4 2 47 h0) (hr : XR X (some .int)) (f0 : Lay_X4 h0 x0) (f1 : (hT h0 x1 = 1 ∧ hL h0 x1 = 108)) {Q : Int → Hp → Prop} {K6 : Int → Int → Hp → Prop} (hK6 : ∀ (l3 l4 : Int) (h : Hp), K6 l3 l4 h → Wx G X h0 (QI Q) h 6 [some (rV x0), some (rV x1), some (iV x2), some (iV l3), some (iV l4), none, none] []) {l3 l4 : Int} {h : Hp} (hw : g_X4_nextFor_L6 x0 x1 x2 Q K6 l3 l4 h) : Wx G X h0 (QI Q) h 6 [some (rV x0), some (rV x1), some (iV x2), some (iV l3), some (iV l4), none, none] [] := by
  refine Wx.start (fun EB => ?_)
  unfold g_X4_nextFor_L6 at hw
  refine x_iload HE dX4_nextFor_6 rfl ?_
  refine x_aload_n HE 0 dX4_nextFor_8 rfl rfl ?_
  refine x_gR HE dX4_nextFor_9 fd_X4_15 q1852 (Or.inl rfl) (Lay_X4.tag (f0.ext EB)) (Lay_X4_15 (f0.ext EB)).1 ?_
  refine x_iconst HE dX4_nextFor_12 (by decide) ?_
  refine x_iald HE dX4_nextFor_13 (t := 1) (by decide) ((Lay_X4_15 (f0.ext EB)).2.1) (ix_of ((Lay_X4_15 (f0.ext EB)).2.2) (by decide)) rfl ?_
  refine x_ic_ge HE 134 dX4_nextFor_14 (by decide) (fun c14 => ?_) (fun c14 => ?_)
  · have hw := hw.1 c14
    refine Wx.mask [true, true, true, true, false, true, true] (lo2 := [some (rV x0), some (rV x1), some (iV x2), some (iV l3), none, none, none]) rfl ?_
    exact w_X4_nextFor_134 HE hr f0 f1 hw
  · have hw := hw.2 c14
    refine x_aload_n HE 1 dX4_nextFor_17 rfl rfl ?_
    refine x_iload HE dX4_nextFor_18 rfl ?_
    refine x_callS HE dX4_nextFor_20 rfl (fun l => k_X4_isWaiting ⟨(EB.tag f1.1 (by decide)), (EB.len (by rw [f1.1]; decide) f1.2)⟩ l hw) (As := [rV x1, iV l4]) (rest := []) rfl (lw_S q2165 q2166 q129 q2167) hy_X4_isWaiting.2 rfl rfl (Nat.le_of_ble_eq_true rfl) (Nat.le_of_ble_eq_true rfl) (Nat.le_of_ble_eq_true rfl) (kkI (fun r20 m20 E20 hw => ?_))
    have hw := hw E20
    refine x_if_eq HE 128 dX4_nextFor_23 (by decide) (fun c23 => ?_) (fun c23 => ?_)
    · have hw := hw.1 c23
      exact w_X4_nextFor_128 HE hr f0 f1 hK6 hw
    · have hw := hw.2 c23
      refine x_aload_n HE 1 dX4_nextFor_26 rfl rfl ?_
      refine x_iload HE dX4_nextFor_27 rfl ?_
      refine x_iconst HE dX4_nextFor_29 (by decide) ?_
      refine x_callS HE dX4_nextFor_30 rfl (fun l => k_X4_its ⟨((EB.tr E20).tag f1.1 (by decide)), ((EB.tr E20).len (by rw [f1.1]; decide) f1.2)⟩ l hw) (As := [rV x1, iV l4, iV 1]) (rest := []) rfl (lw_S q2168 q2169 q129 q2170) hy_X4_its.2 rfl rfl (Nat.le_of_ble_eq_true rfl) (Nat.le_of_ble_eq_true rfl) (Nat.le_of_ble_eq_true rfl) (kkI (fun r30 m30 E30 hw => ?_))
      have hw := hw E30
      refine x_aload_n HE 0 dX4_nextFor_33 rfl rfl ?_
      refine x_gR HE dX4_nextFor_34 fd_X4_23 q1860 (Or.inl rfl) (Lay_X4.tag (f0.ext (EB.tr (E20.tr E30)))) (Lay_X4_23 (f0.ext (EB.tr (E20.tr E30)))).1 ?_
      refine x_bipush HE dX4_nextFor_37 (by decide) ?_
      refine x_iload_n HE 2 dX4_nextFor_39 rfl rfl ?_
      obtain ⟨v40, hw⟩ := hw
      refine x_imul HE dX4_nextFor_40 v40 ?_
      refine x_iconst HE dX4_nextFor_41 (by decide) ?_
      obtain ⟨v42, hw⟩ := hw
      refine x_iadd HE dX4_nextFor_42 v42 ?_
      obtain ⟨i43, hw⟩ := hw
      refine x_iald HE dX4_nextFor_43 (t := 1) (by decide) ((Lay_X4_23 (f0.ext (EB.tr (E20.tr E30)))).2.1) (ix_of ((Lay_X4_23 (f0.ext (EB.tr (E20.tr E30)))).2.2) i43) rfl ?_
      refine x_aload_n HE 0 dX4_nextFor_44 rfl rfl ?_
      refine x_gR HE dX4_nextFor_45 fd_X4_23 q1860 (Or.inl rfl) (Lay_X4.tag (f0.ext (EB.tr (E20.tr E30)))) (Lay_X4_23 (f0.ext (EB.tr (E20.tr E30)))).1 ?_
      refine x_bipush HE dX4_nextFor_48 (by decide) ?_
      refine x_iload_n HE 2 dX4_nextFor_50 rfl rfl ?_
      obtain ⟨v51, hw⟩ := hw
      refine x_imul HE dX4_nextFor_51 v51 ?_
      refine x_iconst HE dX4_nextFor_52 (by decide) ?_
      obtain ⟨v53, hw⟩ := hw
      refine x_iadd HE dX4_nextFor_53 v53 ?_
      obtain ⟨i54, hw⟩ := hw
      refine x_iald HE dX4_nextFor_54 (t := 1) (by decide) ((Lay_X4_23 (f0.ext (EB.tr (E20.tr E30)))).2.1) (ix_of ((Lay_X4_23 (f0.ext (EB.tr (E20.tr E30)))).2.2) i54) rfl ?_
      refine x_callS HE dX4_nextFor_55 rfl (fun l => k_X4_within  l hw) (As := [iV r30, iV (hA m30 (x0 + 9) ((6 * x2) + 2)), iV (hA m30 (x0 + 9) ((6 * x2) + 3))]) (rest := []) rfl (lw_S q1959 q1960 q129 q1961) hy_X4_within.2 rfl rfl (Nat.le_of_ble_eq_true rfl) (Nat.le_of_ble_eq_true rfl) (Nat.le_of_ble_eq_true rfl) (kkI (fun r55 m55 E55 hw => ?_))
      have hw := hw E55
      refine x_if_ne HE 64 dX4_nextFor_58 (by decide) (fun c58 => ?_) (fun c58 => ?_)
      · have hw := hw.1 c58
        refine x_iload_n HE 3 dX4_nextFor_64 rfl rfl ?_
        refine x_bipush HE dX4_nextFor_65 (by decide) ?_
        refine x_ic_ne HE 76 dX4_nextFor_67 (by decide) (fun c67 => ?_) (fun c67 => ?_)
        · have hw := hw.1 c67
          refine x_aload_n HE 0 dX4_nextFor_76 rfl rfl ?_
          refine x_aload_n HE 1 dX4_nextFor_77 rfl rfl ?_
          refine x_iload_n HE 2 dX4_nextFor_78 rfl rfl ?_
          refine x_iload HE dX4_nextFor_79 rfl ?_
          refine x_callV HE dX4_nextFor_81 rfl (fun l => k_X4_turn (f0.ext (EB.tr (E20.tr (E30.tr E55)))) ⟨((EB.tr (E20.tr (E30.tr E55))).tag f1.1 (by decide)), ((EB.tr (E20.tr (E30.tr E55))).len (by rw [f1.1]; decide) f1.2)⟩ l hw) (As := [rV x1, iV x2, iV l4]) (rest := []) rfl xc10 (Lay_X4.tag (f0.ext (EB.tr (E20.tr (E30.tr E55))))) (lw_V q2187 q2189 qs89 q129 q2190) hy_X4_turn rfl rfl (Nat.le_of_ble_eq_true rfl) (Nat.le_of_ble_eq_true rfl) (Nat.le_of_ble_eq_true rfl) (kkI (fun r81 m81 E81 hw => ?_))
          have hw := hw E81
          refine x_istore HE (lo' := [some (rV x0), some (rV x1), some (iV x2), some (iV l3), some (iV l4), some (iV r81), none]) dX4_nextFor_84 (Nat.le_of_ble_eq_true rfl) rfl ?_
          refine x_aload_n HE 0 dX4_nextFor_86 rfl rfl ?_
          refine x_aload_n HE 1 dX4_nextFor_87 rfl rfl ?_
          refine x_iload_n HE 2 dX4_nextFor_88 rfl rfl ?_
          refine x_iload_n HE 3 dX4_nextFor_89 rfl rfl ?_
          refine x_callV HE dX4_nextFor_90 rfl (fun l => k_X4_turn (f0.ext (EB.tr (E20.tr (E30.tr (E55.tr E81))))) ⟨((EB.tr (E20.tr (E30.tr (E55.tr E81)))).tag f1.1 (by decide)), ((EB.tr (E20.tr (E30.tr (E55.tr E81)))).len (by rw [f1.1]; decide) f1.2)⟩ l hw) (As := [rV x1, iV x2, iV l3]) (rest := []) rfl xc10 (Lay_X4.tag (f0.ext (EB.tr (E20.tr (E30.tr (E55.tr E81)))))) (lw_V q2187 q2189 qs89 q129 q2190) hy_X4_turn rfl rfl (Nat.le_of_ble_eq_true rfl) (Nat.le_of_ble_eq_true rfl) (Nat.le_of_ble_eq_true rfl) (kkI (fun r90 m90 E90 hw => ?_))
          have hw := hw E90
          refine x_istore HE (lo' := [some (rV x0), some (rV x1), some (iV x2), some (iV l3), some (iV l4), some (iV r81), some (iV r90)]) dX4_nextFor_93 (Nat.le_of_ble_eq_true rfl) rfl ?_
          refine x_iload HE dX4_nextFor_95 rfl ?_
          refine x_iload HE dX4_nextFor_97 rfl ?_
          refine x_ic_lt HE 125 dX4_nextFor_99 (by decide) (fun c99 => ?_) (fun c99 => ?_)
          · have hw := hw.1 c99
            refine Wx.mask [true, true, true, false, true, false, false] (lo2 := [some (rV x0), some (rV x1), some (iV x2), none, some (iV l4), none, none]) rfl ?_
            exact w_X4_nextFor_125 HE hr f0 f1 hK6 hw
          · have hw := hw.2 c99
            refine x_iload HE dX4_nextFor_102 rfl ?_
            refine x_iload HE dX4_nextFor_104 rfl ?_
            refine x_ic_ne HE 128 dX4_nextFor_106 (by decide) (fun c106 => ?_) (fun c106 => ?_)
            · have hw := hw.1 c106
              refine Wx.mask [true, true, true, true, true, false, false] (lo2 := [some (rV x0), some (rV x1), some (iV x2), some (iV l3), some (iV l4), none, none]) rfl ?_
              exact w_X4_nextFor_128 HE hr f0 f1 hK6 hw
            · have hw := hw.2 c106
              refine x_aload_n HE 0 dX4_nextFor_109 rfl rfl ?_
              refine x_iload HE dX4_nextFor_110 rfl ?_
              refine x_iconst HE dX4_nextFor_112 (by decide) ?_
              refine x_callV HE dX4_nextFor_113 rfl (fun l => k_X4_man (f0.ext (EB.tr (E20.tr (E30.tr (E55.tr (E81.tr E90)))))) l hw) (As := [iV l4, iV 2]) (rest := []) rfl xc10 (Lay_X4.tag (f0.ext (EB.tr (E20.tr (E30.tr (E55.tr (E81.tr E90))))))) (lw_V q2124 q2126 qs82 q129 q2127) hy_X4_man rfl rfl (Nat.le_of_ble_eq_true rfl) (Nat.le_of_ble_eq_true rfl) (Nat.le_of_ble_eq_true rfl) (kkI (fun r113 m113 E113 hw => ?_))
              have hw := hw E113
              refine x_aload_n HE 0 dX4_nextFor_116 rfl rfl ?_
              refine x_iload_n HE 3 dX4_nextFor_117 rfl rfl ?_
              refine x_iconst HE dX4_nextFor_118 (by decide) ?_
              refine x_callV HE dX4_nextFor_119 rfl (fun l => k_X4_man (f0.ext (EB.tr (E20.tr (E30.tr (E55.tr (E81.tr (E90.tr E113))))))) l hw) (As := [iV l3, iV 2]) (rest := [iV r113]) rfl xc10 (Lay_X4.tag (f0.ext (EB.tr (E20.tr (E30.tr (E55.tr (E81.tr (E90.tr E113)))))))) (lw_V q2124 q2126 qs82 q129 q2127) hy_X4_man rfl rfl (Nat.le_of_ble_eq_true rfl) (Nat.le_of_ble_eq_true rfl) (Nat.le_of_ble_eq_true rfl) (kkI (fun r119 m119 E119 hw => ?_))
              have hw := hw E119
              refine x_ic_ge HE 128 dX4_nextFor_122 (by decide) (fun c122 => ?_) (fun c122 => ?_)
              · have hw := hw.1 c122
                refine Wx.mask [true, true, true, true, true, false, false] (lo2 := [some (rV x0), some (rV x1), some (iV x2), some (iV l3), some (iV l4), none, none]) rfl ?_
                exact w_X4_nextFor_128 HE hr f0 f1 hK6 hw
              · have hw := hw.2 c122
                refine Wx.mask [true, true, true, false, true, false, false] (lo2 := [some (rV x0), some (rV x1), some (iV x2), none, some (iV l4), none, none]) rfl ?_
                exact w_X4_nextFor_125 HE hr f0 f1 hK6 hw
        · have hw := hw.2 c67
          refine x_iload HE dX4_nextFor_70 rfl ?_
          refine x_istore_n HE 3 (lo' := [some (rV x0), some (rV x1), some (iV x2), some (iV l4), some (iV l4), none, none]) dX4_nextFor_72 rfl (Nat.le_of_ble_eq_true rfl) rfl ?_
          refine x_goto HE 128 dX4_nextFor_73 (by decide) ?_
          exact w_X4_nextFor_128 HE hr f0 f1 hK6 hw
      · have hw := hw.2 c58
        refine x_goto HE 128 dX4_nextFor_61 (by decide) ?_
        exact w_X4_nextFor_128 HE hr f0 f1 hK6 hw
theorem wl_X4_nextFor_6 {G : GT} {X : ET} {h0 : Hp} {x0 x1 x2 : Int} (HE : XE G X cX4_nextFor 7 RX4 2 47 h0) (hr : XR X (some .int)) (f0 : Lay_X4 h0 x0) (f1 : (hT h0 x1 = 1 ∧ hL h0 x1 = 108)) {Q : Int → Hp → Prop} {l3 l4 : Int} {h : Hp} (hw : Lp2 (g_X4_nextFor_L6 x0 x1 x2 Q) l3 l4 h) : Wx G X h0 (QI Q) h 6 [some (rV x0), some (rV x1), some (iV x2), some (iV l3), some (iV l4), none, none] [] := by
  obtain ⟨n, hw⟩ := hw
  induction n generalizing l3 l4 h with
  | zero => exact hw.elim
  | succ n ih => exact w_X4_nextFor_6 HE hr f0 f1 (fun _ _ _ hk => ih hk) hw
def g_X4_nextFor (x0 x1 x2 : Int) (Q : Int → Hp → Prop) (h : Hp) : Prop :=
  Lp2 (g_X4_nextFor_L6 x0 x1 x2 Q) (-2) 0 h
theorem w_X4_nextFor_0 {G : GT} {X : ET} {h0 : Hp} {x0 x1 x2 : Int} (HE : XE G X cX4_nextFor 7 RX4 2 47 h0) (hr : XR X (some .int)) (f0 : Lay_X4 h0 x0) (f1 : (hT h0 x1 = 1 ∧ hL h0 x1 = 108)) {Q : Int → Hp → Prop} {h : Hp} (hw : g_X4_nextFor x0 x1 x2 Q h) : Wx G X h0 (QI Q) h 0 [some (rV x0), some (rV x1), some (iV x2), none, none, none, none] [] := by
  refine Wx.start (fun EB => ?_)
  unfold g_X4_nextFor at hw
  refine x_bipush HE dX4_nextFor_0 (by decide) ?_
  refine x_istore_n HE 3 (lo' := [some (rV x0), some (rV x1), some (iV x2), some (iV (-2)), none, none, none]) dX4_nextFor_2 rfl (Nat.le_of_ble_eq_true rfl) rfl ?_
  refine x_iconst HE dX4_nextFor_3 (by decide) ?_
  refine x_istore HE (lo' := [some (rV x0), some (rV x1), some (iV x2), some (iV (-2)), some (iV 0), none, none]) dX4_nextFor_4 (Nat.le_of_ble_eq_true rfl) rfl ?_
  exact wl_X4_nextFor_6 HE hr f0 f1 hw
theorem k_X4_nextFor {G : GT} {x0 x1 x2 : Int} {Q : Int → Hp → Prop} {h : Hp} (f0 : Lay_X4 h x0) (f1 : (hT h x1 = 1 ∧ hL h x1 = 108)) (l : Launch) (hw : g_X4_nextFor x0 x1 x2 Q h) : XM G l yX4_nextFor cX4_nextFor 7 (some .int) 2 47 [rV x0, rV x1, iV x2] (QI Q) h :=
  XM.of (by decide) (Nat.le_of_ble_eq_true rfl) (fun X HE hr hn => w_X4_nextFor_0 HE hr f0 f1 hw)
def g_X4_next (x0 x1 : Int) (Q : Int → Hp → Prop) (h : Hp) : Prop :=
  g_X4_good x0 (fun m1 => Ext h m1 → (g_X4_isStaff x0 x1 (fun r6 m6 => Ext m1 m6 → (((r6 ≠ 0) → (g_X4_asTold x0 (fun m19 => Ext m6 m19 → (g_X4_nextFor x0 (x0 + 5) x1 (fun r28 m28 => Ext m19 m28 → (Q r28 m28)) m19)) m6)) ∧ ((r6 = 0) → (g_X4_no x0 1 (fun r14 m14 => Ext m6 m14 → (Q r14 m14)) m6)))) m1)) h
theorem w_X4_next_0 {G : GT} {X : ET} {h0 : Hp} {x0 x1 : Int} (HE : XE G X cX4_next 2 RX4 3 73 h0) (hr : XR X (some .int)) (f0 : Lay_X4 h0 x0) {Q : Int → Hp → Prop} {h : Hp} (hw : g_X4_next x0 x1 Q h) : Wx G X h0 (QI Q) h 0 [some (rV x0), some (iV x1)] [] := by
  refine Wx.start (fun EB => ?_)
  unfold g_X4_next at hw
  refine x_aload_n HE 0 dX4_next_0 rfl rfl ?_
  refine x_callV HE dX4_next_1 rfl (fun l => k_X4_good (f0.ext EB) l hw) (As := []) (rest := []) rfl xc10 (Lay_X4.tag (f0.ext EB)) (lw_V q1955 q1957 qs55 q129 q1958) hy_X4_good rfl rfl (Nat.le_of_ble_eq_true rfl) (Nat.le_of_ble_eq_true rfl) (Nat.le_of_ble_eq_true rfl) (kkV (fun m1 E1 hw => ?_))
  have hw := hw E1
  refine x_aload_n HE 0 dX4_next_4 rfl rfl ?_
  refine x_iload_n HE 1 dX4_next_5 rfl rfl ?_
  refine x_callV HE dX4_next_6 rfl (fun l => k_X4_isStaff (f0.ext (EB.tr E1)) l hw) (As := [iV x1]) (rest := []) rfl xc10 (Lay_X4.tag (f0.ext (EB.tr E1))) (lw_V q2152 q2154 qs85 q129 q2155) hy_X4_isStaff rfl rfl (Nat.le_of_ble_eq_true rfl) (Nat.le_of_ble_eq_true rfl) (Nat.le_of_ble_eq_true rfl) (kkI (fun r6 m6 E6 hw => ?_))
  have hw := hw E6
  refine x_if_ne HE 18 dX4_next_9 (by decide) (fun c9 => ?_) (fun c9 => ?_)
  · have hw := hw.1 c9
    refine x_aload_n HE 0 dX4_next_18 rfl rfl ?_
    refine x_callV HE dX4_next_19 rfl (fun l => k_X4_asTold (f0.ext (EB.tr (E1.tr E6))) l hw) (As := []) (rest := []) rfl xc10 (Lay_X4.tag (f0.ext (EB.tr (E1.tr E6)))) (lw_V q2116 q2118 qs80 q129 q2119) hy_X4_asTold rfl rfl (Nat.le_of_ble_eq_true rfl) (Nat.le_of_ble_eq_true rfl) (Nat.le_of_ble_eq_true rfl) (kkV (fun m19 E19 hw => ?_))
    have hw := hw E19
    refine x_aload_n HE 0 dX4_next_22 rfl rfl ?_
    refine x_aload_n HE 0 dX4_next_23 rfl rfl ?_
    refine x_gR HE dX4_next_24 fd_X4_17 q1854 (Or.inl rfl) (Lay_X4.tag (f0.ext (EB.tr (E1.tr (E6.tr E19))))) (Lay_X4_17 (f0.ext (EB.tr (E1.tr (E6.tr E19))))).1 ?_
    refine x_iload_n HE 1 dX4_next_27 rfl rfl ?_
    refine x_callV HE dX4_next_28 rfl (fun l => k_X4_nextFor (f0.ext (EB.tr (E1.tr (E6.tr E19)))) ⟨(Lay_X4_17 (f0.ext (EB.tr (E1.tr (E6.tr E19))))).2.1, (Lay_X4_17 (f0.ext (EB.tr (E1.tr (E6.tr E19))))).2.2⟩ l hw) (As := [rV (x0 + 5), iV x1]) (rest := []) rfl xc10 (Lay_X4.tag (f0.ext (EB.tr (E1.tr (E6.tr E19))))) (lw_V q2183 q2185 qs88 q129 q2186) hy_X4_nextFor rfl rfl (Nat.le_of_ble_eq_true rfl) (Nat.le_of_ble_eq_true rfl) (Nat.le_of_ble_eq_true rfl) (kkI (fun r28 m28 E28 hw => ?_))
    have hw := hw E28
    exact x_iret HE hr dX4_next_31 hw
  · have hw := hw.2 c9
    refine x_aload_n HE 0 dX4_next_12 rfl rfl ?_
    refine x_iconst HE dX4_next_13 (by decide) ?_
    refine x_callV HE dX4_next_14 rfl (fun l => k_X4_no (f0.ext (EB.tr (E1.tr E6))) l hw) (As := [iV 1]) (rest := []) rfl xc10 (Lay_X4.tag (f0.ext (EB.tr (E1.tr E6)))) (lw_V q1962 q1964 qs56 q129 q1965) hy_X4_no rfl rfl (Nat.le_of_ble_eq_true rfl) (Nat.le_of_ble_eq_true rfl) (Nat.le_of_ble_eq_true rfl) (kkI (fun r14 m14 E14 hw => ?_))
    have hw := hw E14
    exact x_iret HE hr dX4_next_17 hw
theorem k_X4_next {G : GT} {x0 x1 : Int} {Q : Int → Hp → Prop} {h : Hp} (f0 : Lay_X4 h x0) (l : Launch) (hw : g_X4_next x0 x1 Q h) : XM G l yX4_next cX4_next 2 (some .int) 3 73 [rV x0, iV x1] (QI Q) h :=
  XM.of (by decide) (Nat.le_of_ble_eq_true rfl) (fun X HE hr hn => w_X4_next_0 HE hr f0 hw)
def g_X4_wantsOf (x0 x1 x2 : Int) (Q : Int → Hp → Prop) (h : Hp) : Prop :=
  (i32 (5 * x1)) ∧ ((i32 (111 + (5 * x1))) ∧ ((i32 ((111 + (5 * x1)) + x2)) ∧ (((0 : Int) ≤ ((111 + (5 * x1)) + x2) ∧ ((111 + (5 * x1)) + x2) < 347) ∧ (Q (hA h (x0 + 3) ((111 + (5 * x1)) + x2)) h))))
theorem w_X4_wantsOf_0 {G : GT} {X : ET} {h0 : Hp} {x0 x1 x2 : Int} (HE : XE G X cX4_wantsOf 3 RX4 0 0 h0) (hr : XR X (some .int)) (f0 : Lay_X4 h0 x0) {Q : Int → Hp → Prop} {h : Hp} (hw : g_X4_wantsOf x0 x1 x2 Q h) : Wx G X h0 (QI Q) h 0 [some (rV x0), some (iV x1), some (iV x2)] [] := by
  refine Wx.start (fun EB => ?_)
  unfold g_X4_wantsOf at hw
  refine x_aload_n HE 0 dX4_wantsOf_0 rfl rfl ?_
  refine x_gR HE dX4_wantsOf_1 fd_X4_15 q1852 (Or.inl rfl) (Lay_X4.tag (f0.ext EB)) (Lay_X4_15 (f0.ext EB)).1 ?_
  refine x_bipush HE dX4_wantsOf_4 (by decide) ?_
  refine x_iconst HE dX4_wantsOf_6 (by decide) ?_
  refine x_iload_n HE 1 dX4_wantsOf_7 rfl rfl ?_
  obtain ⟨v8, hw⟩ := hw
  refine x_imul HE dX4_wantsOf_8 v8 ?_
  obtain ⟨v9, hw⟩ := hw
  refine x_iadd HE dX4_wantsOf_9 v9 ?_
  refine x_iload_n HE 2 dX4_wantsOf_10 rfl rfl ?_
  obtain ⟨v11, hw⟩ := hw
  refine x_iadd HE dX4_wantsOf_11 v11 ?_
  obtain ⟨i12, hw⟩ := hw
  refine x_iald HE dX4_wantsOf_12 (t := 1) (by decide) ((Lay_X4_15 (f0.ext EB)).2.1) (ix_of ((Lay_X4_15 (f0.ext EB)).2.2) i12) rfl ?_
  exact x_iret HE hr dX4_wantsOf_13 hw
theorem k_X4_wantsOf {G : GT} {x0 x1 x2 : Int} {Q : Int → Hp → Prop} {h : Hp} (f0 : Lay_X4 h x0) (l : Launch) (hw : g_X4_wantsOf x0 x1 x2 Q h) : XM G l yX4_wantsOf cX4_wantsOf 3 (some .int) 0 0 [rV x0, iV x1, iV x2] (QI Q) h :=
  XM.of (by decide) (Nat.le_of_ble_eq_true rfl) (fun X HE hr hn => w_X4_wantsOf_0 HE hr f0 hw)
def g_X4_timeBehind_b90 (x0 x1 x2 : Int) (Q : Int → Hp → Prop) (l3 : Int) (h : Hp) : Prop :=
  Q l3 h
theorem w_X4_timeBehind_90 {G : GT} {X : ET} {h0 : Hp} {x0 x1 x2 : Int} (HE : XE G X cX4_timeBehind 7 RX4 1 22 h0) (hr : XR X (some .int)) (f0 : Lay_X4 h0 x0) {Q : Int → Hp → Prop} {l3 : Int} {h : Hp} (hw : g_X4_timeBehind_b90 x0 x1 x2 Q l3 h) : Wx G X h0 (QI Q) h 90 [some (rV x0), some (iV x1), some (iV x2), some (iV l3), none, none, none] [] := by
  refine Wx.start (fun EB => ?_)
  unfold g_X4_timeBehind_b90 at hw
  refine x_iload_n HE 3 dX4_timeBehind_90 rfl rfl ?_
  exact x_iret HE hr dX4_timeBehind_91 hw
def g_X4_timeBehind_b84 (x0 x1 x2 : Int) (Q : Int → Hp → Prop) (K5 : Int → Int → Hp → Prop) (l3 l4 : Int) (h : Hp) : Prop :=
  (i32 (l4 + 1)) ∧ (∀ y84 : Int, y84 = l4 + 1 → (K5 l3 y84 h))
theorem w_X4_timeBehind_84 {G : GT} {X : ET} {h0 : Hp} {x0 x1 x2 : Int} (HE : XE G X cX4_timeBehind 7 RX4 1 22 h0) (hr : XR X (some .int)) (f0 : Lay_X4 h0 x0) {Q : Int → Hp → Prop} {K5 : Int → Int → Hp → Prop} (hK5 : ∀ (l3 l4 : Int) (h : Hp), K5 l3 l4 h → Wx G X h0 (QI Q) h 5 [some (rV x0), some (iV x1), some (iV x2), some (iV l3), some (iV l4), none, none] []) {l3 l4 : Int} {h : Hp} (hw : g_X4_timeBehind_b84 x0 x1 x2 Q K5 l3 l4 h) : Wx G X h0 (QI Q) h 84 [some (rV x0), some (iV x1), some (iV x2), some (iV l3), some (iV l4), none, none] [] := by
  refine Wx.start (fun EB => ?_)
  unfold g_X4_timeBehind_b84 at hw
  obtain ⟨v84, hw⟩ := hw
  refine x_iincN HE (fun y84 => [some (rV x0), some (iV x1), some (iV x2), some (iV l3), some (iV y84), none, none]) dX4_timeBehind_84 rfl v84 (Nat.le_of_ble_eq_true rfl) (fun _ => rfl) (fun y84 ey84 => ?_)
  have hw := hw y84 ey84
  refine x_goto HE 5 dX4_timeBehind_87 (by decide) ?_
  exact hK5 _ _ _ hw
def g_X4_timeBehind_b66 (x0 x1 x2 : Int) (Q : Int → Hp → Prop) (K5 : Int → Int → Hp → Prop) (l3 l4 l6 : Int) (h : Hp) : Prop :=
  (i32 (3 * l4)) ∧ ((i32 (8 + (3 * l4))) ∧ (((0 : Int) ≤ (8 + (3 * l4)) ∧ (8 + (3 * l4)) < 347) ∧ ((i32 ((hA h (x0 + 3) (8 + (3 * l4))) - l6)) ∧ ((i32 (l3 + ((hA h (x0 + 3) (8 + (3 * l4))) - l6))) ∧ (∀ y83 : Int, y83 = (l3 + ((hA h (x0 + 3) (8 + (3 * l4))) - l6)) → (g_X4_timeBehind_b84 x0 x1 x2 Q K5 y83 l4 h))))))
theorem w_X4_timeBehind_66 {G : GT} {X : ET} {h0 : Hp} {x0 x1 x2 : Int} (HE : XE G X cX4_timeBehind 7 RX4 1 22 h0) (hr : XR X (some .int)) (f0 : Lay_X4 h0 x0) {Q : Int → Hp → Prop} {K5 : Int → Int → Hp → Prop} (hK5 : ∀ (l3 l4 : Int) (h : Hp), K5 l3 l4 h → Wx G X h0 (QI Q) h 5 [some (rV x0), some (iV x1), some (iV x2), some (iV l3), some (iV l4), none, none] []) {l3 l4 l6 : Int} {h : Hp} (hw : g_X4_timeBehind_b66 x0 x1 x2 Q K5 l3 l4 l6 h) : Wx G X h0 (QI Q) h 66 [some (rV x0), some (iV x1), some (iV x2), some (iV l3), some (iV l4), none, some (iV l6)] [] := by
  refine Wx.start (fun EB => ?_)
  unfold g_X4_timeBehind_b66 at hw
  refine x_iload_n HE 3 dX4_timeBehind_66 rfl rfl ?_
  refine x_aload_n HE 0 dX4_timeBehind_67 rfl rfl ?_
  refine x_gR HE dX4_timeBehind_68 fd_X4_15 q1852 (Or.inl rfl) (Lay_X4.tag (f0.ext EB)) (Lay_X4_15 (f0.ext EB)).1 ?_
  refine x_bipush HE dX4_timeBehind_71 (by decide) ?_
  refine x_iconst HE dX4_timeBehind_73 (by decide) ?_
  refine x_iload HE dX4_timeBehind_74 rfl ?_
  obtain ⟨v76, hw⟩ := hw
  refine x_imul HE dX4_timeBehind_76 v76 ?_
  obtain ⟨v77, hw⟩ := hw
  refine x_iadd HE dX4_timeBehind_77 v77 ?_
  obtain ⟨i78, hw⟩ := hw
  refine x_iald HE dX4_timeBehind_78 (t := 1) (by decide) ((Lay_X4_15 (f0.ext EB)).2.1) (ix_of ((Lay_X4_15 (f0.ext EB)).2.2) i78) rfl ?_
  refine x_iload HE dX4_timeBehind_79 rfl ?_
  obtain ⟨v81, hw⟩ := hw
  refine x_isub HE dX4_timeBehind_81 v81 ?_
  obtain ⟨v82, hw⟩ := hw
  refine x_iadd HE dX4_timeBehind_82 v82 ?_
  refine x_istore_nN HE 3 (fun y83 => [some (rV x0), some (iV x1), some (iV x2), some (iV y83), some (iV l4), none, some (iV l6)]) dX4_timeBehind_83 rfl (Nat.le_of_ble_eq_true rfl) (fun _ => rfl) (fun y83 ey83 => ?_)
  have hw := hw y83 ey83
  refine Wx.mask [true, true, true, true, true, true, false] (lo2 := [some (rV x0), some (iV x1), some (iV x2), some (iV y83), some (iV l4), none, none]) rfl ?_
  exact w_X4_timeBehind_84 HE hr f0 hK5 hw
def g_X4_timeBehind_L5 (x0 x1 x2 : Int) (Q : Int → Hp → Prop) (K5 : Int → Int → Hp → Prop) (l3 l4 : Int) (h : Hp) : Prop :=
  ((5 ≤ l4) → (g_X4_timeBehind_b90 x0 x1 x2 Q l3 h)) ∧ ((l4 < 5) → (g_X4_wantsOf x0 x2 l4 (fun r15 m15 => Ext h m15 → (((r15 ≠ 0) → ((i32 (3 * l4)) ∧ ((i32 (8 + (3 * l4))) ∧ ((i32 ((8 + (3 * l4)) + 1)) ∧ (((0 : Int) ≤ ((8 + (3 * l4)) + 1) ∧ ((8 + (3 * l4)) + 1) < 347) ∧ (∀ y42 : Int, y42 = (hA m15 (x0 + 3) ((8 + (3 * l4)) + 1)) → ((i32 (r15 * y42)) ∧ ((i32 (l3 + (r15 * y42))) ∧ (∀ y51 : Int, y51 = (l3 + (r15 * y42)) → (((x1 < 0) → (g_X4_timeBehind_b66 x0 x1 x2 Q K5 y51 l4 y42 m15)) ∧ ((0 ≤ x1) → (g_X4_wantsOf x0 x1 l4 (fun r60 m60 => Ext m15 m60 → (((r60 ≠ 0) → (g_X4_timeBehind_b84 x0 x1 x2 Q K5 y51 l4 m60)) ∧ ((r60 = 0) → (g_X4_timeBehind_b66 x0 x1 x2 Q K5 y51 l4 y42 m60)))) m15)))))))))))) ∧ ((r15 = 0) → (g_X4_timeBehind_b84 x0 x1 x2 Q K5 l3 l4 m15)))) h))
theorem w_X4_timeBehind_5 {G : GT} {X : ET} {h0 : Hp} {x0 x1 x2 : Int} (HE : XE G X cX4_timeBehind 7 RX4 1 22 h0) (hr : XR X (some .int)) (f0 : Lay_X4 h0 x0) {Q : Int → Hp → Prop} {K5 : Int → Int → Hp → Prop} (hK5 : ∀ (l3 l4 : Int) (h : Hp), K5 l3 l4 h → Wx G X h0 (QI Q) h 5 [some (rV x0), some (iV x1), some (iV x2), some (iV l3), some (iV l4), none, none] []) {l3 l4 : Int} {h : Hp} (hw : g_X4_timeBehind_L5 x0 x1 x2 Q K5 l3 l4 h) : Wx G X h0 (QI Q) h 5 [some (rV x0), some (iV x1), some (iV x2), some (iV l3), some (iV l4), none, none] [] := by
  refine Wx.start (fun EB => ?_)
  unfold g_X4_timeBehind_L5 at hw
  refine x_iload HE dX4_timeBehind_5 rfl ?_
  refine x_iconst HE dX4_timeBehind_7 (by decide) ?_
  refine x_ic_ge HE 90 dX4_timeBehind_8 (by decide) (fun c8 => ?_) (fun c8 => ?_)
  · have hw := hw.1 c8
    refine Wx.mask [true, true, true, true, false, true, true] (lo2 := [some (rV x0), some (iV x1), some (iV x2), some (iV l3), none, none, none]) rfl ?_
    exact w_X4_timeBehind_90 HE hr f0 hw
  · have hw := hw.2 c8
    refine x_aload_n HE 0 dX4_timeBehind_11 rfl rfl ?_
    refine x_iload_n HE 2 dX4_timeBehind_12 rfl rfl ?_
    refine x_iload HE dX4_timeBehind_13 rfl ?_
    refine x_callV HE dX4_timeBehind_15 rfl (fun l => k_X4_wantsOf (f0.ext EB) l hw) (As := [iV x2, iV l4]) (rest := []) rfl xc10 (Lay_X4.tag (f0.ext EB)) (lw_V q2206 q2208 qs92 q129 q2209) hy_X4_wantsOf rfl rfl (Nat.le_of_ble_eq_true rfl) (Nat.le_of_ble_eq_true rfl) (Nat.le_of_ble_eq_true rfl) (kkI (fun r15 m15 E15 hw => ?_))
    have hw := hw E15
    refine x_istore HE (lo' := [some (rV x0), some (iV x1), some (iV x2), some (iV l3), some (iV l4), some (iV r15), none]) dX4_timeBehind_18 (Nat.le_of_ble_eq_true rfl) rfl ?_
    refine x_iload HE dX4_timeBehind_20 rfl ?_
    refine x_if_ne HE 28 dX4_timeBehind_22 (by decide) (fun c22 => ?_) (fun c22 => ?_)
    · have hw := hw.1 c22
      refine x_aload_n HE 0 dX4_timeBehind_28 rfl rfl ?_
      refine x_gR HE dX4_timeBehind_29 fd_X4_15 q1852 (Or.inl rfl) (Lay_X4.tag (f0.ext (EB.tr E15))) (Lay_X4_15 (f0.ext (EB.tr E15))).1 ?_
      refine x_bipush HE dX4_timeBehind_32 (by decide) ?_
      refine x_iconst HE dX4_timeBehind_34 (by decide) ?_
      refine x_iload HE dX4_timeBehind_35 rfl ?_
      obtain ⟨v37, hw⟩ := hw
      refine x_imul HE dX4_timeBehind_37 v37 ?_
      obtain ⟨v38, hw⟩ := hw
      refine x_iadd HE dX4_timeBehind_38 v38 ?_
      refine x_iconst HE dX4_timeBehind_39 (by decide) ?_
      obtain ⟨v40, hw⟩ := hw
      refine x_iadd HE dX4_timeBehind_40 v40 ?_
      obtain ⟨i41, hw⟩ := hw
      refine x_iald HE dX4_timeBehind_41 (t := 1) (by decide) ((Lay_X4_15 (f0.ext (EB.tr E15))).2.1) (ix_of ((Lay_X4_15 (f0.ext (EB.tr E15))).2.2) i41) rfl ?_
      refine x_istoreN HE (fun y42 => [some (rV x0), some (iV x1), some (iV x2), some (iV l3), some (iV l4), some (iV r15), some (iV y42)]) dX4_timeBehind_42 (Nat.le_of_ble_eq_true rfl) (fun _ => rfl) (fun y42 ey42 => ?_)
      have hw := hw y42 ey42
      refine x_iload_n HE 3 dX4_timeBehind_44 rfl rfl ?_
      refine x_iload HE dX4_timeBehind_45 rfl ?_
      refine x_iload HE dX4_timeBehind_47 rfl ?_
      obtain ⟨v49, hw⟩ := hw
      refine x_imul HE dX4_timeBehind_49 v49 ?_
      obtain ⟨v50, hw⟩ := hw
      refine x_iadd HE dX4_timeBehind_50 v50 ?_
      refine x_istore_nN HE 3 (fun y51 => [some (rV x0), some (iV x1), some (iV x2), some (iV y51), some (iV l4), some (iV r15), some (iV y42)]) dX4_timeBehind_51 rfl (Nat.le_of_ble_eq_true rfl) (fun _ => rfl) (fun y51 ey51 => ?_)
      have hw := hw y51 ey51
      refine x_iload_n HE 1 dX4_timeBehind_52 rfl rfl ?_
      refine x_if_lt HE 66 dX4_timeBehind_53 (by decide) (fun c53 => ?_) (fun c53 => ?_)
      · have hw := hw.1 c53
        refine Wx.mask [true, true, true, true, true, false, true] (lo2 := [some (rV x0), some (iV x1), some (iV x2), some (iV y51), some (iV l4), none, some (iV y42)]) rfl ?_
        exact w_X4_timeBehind_66 HE hr f0 hK5 hw
      · have hw := hw.2 c53
        refine x_aload_n HE 0 dX4_timeBehind_56 rfl rfl ?_
        refine x_iload_n HE 1 dX4_timeBehind_57 rfl rfl ?_
        refine x_iload HE dX4_timeBehind_58 rfl ?_
        refine x_callV HE dX4_timeBehind_60 rfl (fun l => k_X4_wantsOf (f0.ext (EB.tr E15)) l hw) (As := [iV x1, iV l4]) (rest := []) rfl xc10 (Lay_X4.tag (f0.ext (EB.tr E15))) (lw_V q2206 q2208 qs92 q129 q2209) hy_X4_wantsOf rfl rfl (Nat.le_of_ble_eq_true rfl) (Nat.le_of_ble_eq_true rfl) (Nat.le_of_ble_eq_true rfl) (kkI (fun r60 m60 E60 hw => ?_))
        have hw := hw E60
        refine x_if_ne HE 84 dX4_timeBehind_63 (by decide) (fun c63 => ?_) (fun c63 => ?_)
        · have hw := hw.1 c63
          refine Wx.mask [true, true, true, true, true, false, false] (lo2 := [some (rV x0), some (iV x1), some (iV x2), some (iV y51), some (iV l4), none, none]) rfl ?_
          exact w_X4_timeBehind_84 HE hr f0 hK5 hw
        · have hw := hw.2 c63
          refine Wx.mask [true, true, true, true, true, false, true] (lo2 := [some (rV x0), some (iV x1), some (iV x2), some (iV y51), some (iV l4), none, some (iV y42)]) rfl ?_
          exact w_X4_timeBehind_66 HE hr f0 hK5 hw
    · have hw := hw.2 c22
      refine x_goto HE 84 dX4_timeBehind_25 (by decide) ?_
      refine Wx.mask [true, true, true, true, true, false, true] (lo2 := [some (rV x0), some (iV x1), some (iV x2), some (iV l3), some (iV l4), none, none]) rfl ?_
      exact w_X4_timeBehind_84 HE hr f0 hK5 hw
theorem wl_X4_timeBehind_5 {G : GT} {X : ET} {h0 : Hp} {x0 x1 x2 : Int} (HE : XE G X cX4_timeBehind 7 RX4 1 22 h0) (hr : XR X (some .int)) (f0 : Lay_X4 h0 x0) {Q : Int → Hp → Prop} {l3 l4 : Int} {h : Hp} (hw : Lp2 (g_X4_timeBehind_L5 x0 x1 x2 Q) l3 l4 h) : Wx G X h0 (QI Q) h 5 [some (rV x0), some (iV x1), some (iV x2), some (iV l3), some (iV l4), none, none] [] := by
  obtain ⟨n, hw⟩ := hw
  induction n generalizing l3 l4 h with
  | zero => exact hw.elim
  | succ n ih => exact w_X4_timeBehind_5 HE hr f0 (fun _ _ _ hk => ih hk) hw
def g_X4_timeBehind (x0 x1 x2 : Int) (Q : Int → Hp → Prop) (h : Hp) : Prop :=
  Lp2 (g_X4_timeBehind_L5 x0 x1 x2 Q) 0 0 h
theorem w_X4_timeBehind_0 {G : GT} {X : ET} {h0 : Hp} {x0 x1 x2 : Int} (HE : XE G X cX4_timeBehind 7 RX4 1 22 h0) (hr : XR X (some .int)) (f0 : Lay_X4 h0 x0) {Q : Int → Hp → Prop} {h : Hp} (hw : g_X4_timeBehind x0 x1 x2 Q h) : Wx G X h0 (QI Q) h 0 [some (rV x0), some (iV x1), some (iV x2), none, none, none, none] [] := by
  refine Wx.start (fun EB => ?_)
  unfold g_X4_timeBehind at hw
  refine x_iconst HE dX4_timeBehind_0 (by decide) ?_
  refine x_istore_n HE 3 (lo' := [some (rV x0), some (iV x1), some (iV x2), some (iV 0), none, none, none]) dX4_timeBehind_1 rfl (Nat.le_of_ble_eq_true rfl) rfl ?_
  refine x_iconst HE dX4_timeBehind_2 (by decide) ?_
  refine x_istore HE (lo' := [some (rV x0), some (iV x1), some (iV x2), some (iV 0), some (iV 0), none, none]) dX4_timeBehind_3 (Nat.le_of_ble_eq_true rfl) rfl ?_
  exact wl_X4_timeBehind_5 HE hr f0 hw
theorem k_X4_timeBehind {G : GT} {x0 x1 x2 : Int} {Q : Int → Hp → Prop} {h : Hp} (f0 : Lay_X4 h x0) (l : Launch) (hw : g_X4_timeBehind x0 x1 x2 Q h) : XM G l yX4_timeBehind cX4_timeBehind 7 (some .int) 1 22 [rV x0, iV x1, iV x2] (QI Q) h :=
  XM.of (by decide) (Nat.le_of_ble_eq_true rfl) (fun X HE hr hn => w_X4_timeBehind_0 HE hr f0 hw)
def g_X4_timeOf (x0 x1 x2 x3 : Int) (Q : Int → Hp → Prop) (h : Hp) : Prop :=
  (i32 (4 * x2)) ∧ ((i32 (92 + (4 * x2))) ∧ ((i32 ((92 + (4 * x2)) + 3)) ∧ (((0 : Int) ≤ ((92 + (4 * x2)) + 3) ∧ ((92 + (4 * x2)) + 3) < 108) ∧ ((i32 ((hA h x1 ((92 + (4 * x2)) + 3)) - 1)) ∧ (∀ y12 : Int, y12 = ((hA h x1 ((92 + (4 * x2)) + 3)) - 1) → (g_X4_timeBehind x0 y12 x3 (fun r18 m18 => Ext h m18 → (Q r18 m18)) h))))))
theorem w_X4_timeOf_0 {G : GT} {X : ET} {h0 : Hp} {x0 x1 x2 x3 : Int} (HE : XE G X cX4_timeOf 5 RX4 2 48 h0) (hr : XR X (some .int)) (f0 : Lay_X4 h0 x0) (f1 : (hT h0 x1 = 1 ∧ hL h0 x1 = 108)) {Q : Int → Hp → Prop} {h : Hp} (hw : g_X4_timeOf x0 x1 x2 x3 Q h) : Wx G X h0 (QI Q) h 0 [some (rV x0), some (rV x1), some (iV x2), some (iV x3), none] [] := by
  refine Wx.start (fun EB => ?_)
  unfold g_X4_timeOf at hw
  refine x_aload_n HE 1 dX4_timeOf_0 rfl rfl ?_
  refine x_bipush HE dX4_timeOf_1 (by decide) ?_
  refine x_iconst HE dX4_timeOf_3 (by decide) ?_
  refine x_iload_n HE 2 dX4_timeOf_4 rfl rfl ?_
  obtain ⟨v5, hw⟩ := hw
  refine x_imul HE dX4_timeOf_5 v5 ?_
  obtain ⟨v6, hw⟩ := hw
  refine x_iadd HE dX4_timeOf_6 v6 ?_
  refine x_iconst HE dX4_timeOf_7 (by decide) ?_
  obtain ⟨v8, hw⟩ := hw
  refine x_iadd HE dX4_timeOf_8 v8 ?_
  obtain ⟨i9, hw⟩ := hw
  refine x_iald HE dX4_timeOf_9 (t := 1) (by decide) (EB.tag f1.1 (by decide)) (ix_of (EB.len (by rw [f1.1]; decide) f1.2) i9) rfl ?_
  refine x_iconst HE dX4_timeOf_10 (by decide) ?_
  obtain ⟨v11, hw⟩ := hw
  refine x_isub HE dX4_timeOf_11 v11 ?_
  refine x_istoreN HE (fun y12 => [some (rV x0), some (rV x1), some (iV x2), some (iV x3), some (iV y12)]) dX4_timeOf_12 (Nat.le_of_ble_eq_true rfl) (fun _ => rfl) (fun y12 ey12 => ?_)
  have hw := hw y12 ey12
  refine x_aload_n HE 0 dX4_timeOf_14 rfl rfl ?_
  refine x_iload HE dX4_timeOf_15 rfl ?_
  refine x_iload_n HE 3 dX4_timeOf_17 rfl rfl ?_
  refine x_callV HE dX4_timeOf_18 rfl (fun l => k_X4_timeBehind (f0.ext EB) l hw) (As := [iV y12, iV x3]) (rest := []) rfl xc10 (Lay_X4.tag (f0.ext EB)) (lw_V q2202 q2204 qs91 q129 q2205) hy_X4_timeBehind rfl rfl (Nat.le_of_ble_eq_true rfl) (Nat.le_of_ble_eq_true rfl) (Nat.le_of_ble_eq_true rfl) (kkI (fun r18 m18 E18 hw => ?_))
  have hw := hw E18
  exact x_iret HE hr dX4_timeOf_21 hw
theorem k_X4_timeOf {G : GT} {x0 x1 x2 x3 : Int} {Q : Int → Hp → Prop} {h : Hp} (f0 : Lay_X4 h x0) (f1 : (hT h x1 = 1 ∧ hL h x1 = 108)) (l : Launch) (hw : g_X4_timeOf x0 x1 x2 x3 Q h) : XM G l yX4_timeOf cX4_timeOf 5 (some .int) 2 48 [rV x0, rV x1, iV x2, iV x3] (QI Q) h :=
  XM.of (by decide) (Nat.le_of_ble_eq_true rfl) (fun X HE hr hn => w_X4_timeOf_0 HE hr f0 f1 hw)
def g_X4_time_b38 (x0 x1 x2 : Int) (Q : Int → Hp → Prop) (s0 : Int) (h : Hp) : Prop :=
  Q s0 h
theorem w_X4_time_38 {G : GT} {X : ET} {h0 : Hp} {x0 x1 x2 : Int} (HE : XE G X cX4_time 3 RX4 3 72 h0) (hr : XR X (some .int)) (f0 : Lay_X4 h0 x0) {Q : Int → Hp → Prop} {s0 : Int} {h : Hp} (hw : g_X4_time_b38 x0 x1 x2 Q s0 h) : Wx G X h0 (QI Q) h 38 [some (rV x0), some (iV x1), some (iV x2)] [iV s0] := by
  refine Wx.start (fun EB => ?_)
  unfold g_X4_time_b38 at hw
  exact x_iret HE hr dX4_time_38 hw
def g_X4_time_b33 (x0 x1 x2 : Int) (Q : Int → Hp → Prop) (h : Hp) : Prop :=
  g_X4_no x0 1 (fun r35 m35 => Ext h m35 → (g_X4_time_b38 x0 x1 x2 Q r35 m35)) h
theorem w_X4_time_33 {G : GT} {X : ET} {h0 : Hp} {x0 x1 x2 : Int} (HE : XE G X cX4_time 3 RX4 3 72 h0) (hr : XR X (some .int)) (f0 : Lay_X4 h0 x0) {Q : Int → Hp → Prop} {h : Hp} (hw : g_X4_time_b33 x0 x1 x2 Q  h) : Wx G X h0 (QI Q) h 33 [some (rV x0), some (iV x1), some (iV x2)] [] := by
  refine Wx.start (fun EB => ?_)
  unfold g_X4_time_b33 at hw
  refine x_aload_n HE 0 dX4_time_33 rfl rfl ?_
  refine x_iconst HE dX4_time_34 (by decide) ?_
  refine x_callV HE dX4_time_35 rfl (fun l => k_X4_no (f0.ext EB) l hw) (As := [iV 1]) (rest := []) rfl xc10 (Lay_X4.tag (f0.ext EB)) (lw_V q1962 q1964 qs56 q129 q1965) hy_X4_no rfl rfl (Nat.le_of_ble_eq_true rfl) (Nat.le_of_ble_eq_true rfl) (Nat.le_of_ble_eq_true rfl) (kkI (fun r35 m35 E35 hw => ?_))
  have hw := hw E35
  exact w_X4_time_38 HE hr f0 hw
def g_X4_time (x0 x1 x2 : Int) (Q : Int → Hp → Prop) (h : Hp) : Prop :=
  g_X4_good x0 (fun m1 => Ext h m1 → (g_X4_isStaff x0 x1 (fun r6 m6 => Ext m1 m6 → (((r6 = 0) → (g_X4_time_b33 x0 x1 x2 Q m6)) ∧ ((r6 ≠ 0) → (g_X4_isPerson x0 x2 (fun r14 m14 => Ext m6 m14 → (((r14 = 0) → (g_X4_time_b33 x0 x1 x2 Q m14)) ∧ ((r14 ≠ 0) → (g_X4_timeOf x0 (x0 + 5) x1 x2 (fun r27 m27 => Ext m14 m27 → (g_X4_time_b38 x0 x1 x2 Q r27 m27)) m14)))) m6)))) m1)) h
theorem w_X4_time_0 {G : GT} {X : ET} {h0 : Hp} {x0 x1 x2 : Int} (HE : XE G X cX4_time 3 RX4 3 72 h0) (hr : XR X (some .int)) (f0 : Lay_X4 h0 x0) {Q : Int → Hp → Prop} {h : Hp} (hw : g_X4_time x0 x1 x2 Q h) : Wx G X h0 (QI Q) h 0 [some (rV x0), some (iV x1), some (iV x2)] [] := by
  refine Wx.start (fun EB => ?_)
  unfold g_X4_time at hw
  refine x_aload_n HE 0 dX4_time_0 rfl rfl ?_
  refine x_callV HE dX4_time_1 rfl (fun l => k_X4_good (f0.ext EB) l hw) (As := []) (rest := []) rfl xc10 (Lay_X4.tag (f0.ext EB)) (lw_V q1955 q1957 qs55 q129 q1958) hy_X4_good rfl rfl (Nat.le_of_ble_eq_true rfl) (Nat.le_of_ble_eq_true rfl) (Nat.le_of_ble_eq_true rfl) (kkV (fun m1 E1 hw => ?_))
  have hw := hw E1
  refine x_aload_n HE 0 dX4_time_4 rfl rfl ?_
  refine x_iload_n HE 1 dX4_time_5 rfl rfl ?_
  refine x_callV HE dX4_time_6 rfl (fun l => k_X4_isStaff (f0.ext (EB.tr E1)) l hw) (As := [iV x1]) (rest := []) rfl xc10 (Lay_X4.tag (f0.ext (EB.tr E1))) (lw_V q2152 q2154 qs85 q129 q2155) hy_X4_isStaff rfl rfl (Nat.le_of_ble_eq_true rfl) (Nat.le_of_ble_eq_true rfl) (Nat.le_of_ble_eq_true rfl) (kkI (fun r6 m6 E6 hw => ?_))
  have hw := hw E6
  refine x_if_eq HE 33 dX4_time_9 (by decide) (fun c9 => ?_) (fun c9 => ?_)
  · have hw := hw.1 c9
    exact w_X4_time_33 HE hr f0 hw
  · have hw := hw.2 c9
    refine x_aload_n HE 0 dX4_time_12 rfl rfl ?_
    refine x_iload_n HE 2 dX4_time_13 rfl rfl ?_
    refine x_callV HE dX4_time_14 rfl (fun l => k_X4_isPerson (f0.ext (EB.tr (E1.tr E6))) l hw) (As := [iV x2]) (rest := []) rfl xc10 (Lay_X4.tag (f0.ext (EB.tr (E1.tr E6)))) (lw_V q2144 q2146 qs84 q129 q2147) hy_X4_isPerson rfl rfl (Nat.le_of_ble_eq_true rfl) (Nat.le_of_ble_eq_true rfl) (Nat.le_of_ble_eq_true rfl) (kkI (fun r14 m14 E14 hw => ?_))
    have hw := hw E14
    refine x_if_eq HE 33 dX4_time_17 (by decide) (fun c17 => ?_) (fun c17 => ?_)
    · have hw := hw.1 c17
      exact w_X4_time_33 HE hr f0 hw
    · have hw := hw.2 c17
      refine x_aload_n HE 0 dX4_time_20 rfl rfl ?_
      refine x_aload_n HE 0 dX4_time_21 rfl rfl ?_
      refine x_gR HE dX4_time_22 fd_X4_17 q1854 (Or.inl rfl) (Lay_X4.tag (f0.ext (EB.tr (E1.tr (E6.tr E14))))) (Lay_X4_17 (f0.ext (EB.tr (E1.tr (E6.tr E14))))).1 ?_
      refine x_iload_n HE 1 dX4_time_25 rfl rfl ?_
      refine x_iload_n HE 2 dX4_time_26 rfl rfl ?_
      refine x_callV HE dX4_time_27 rfl (fun l => k_X4_timeOf (f0.ext (EB.tr (E1.tr (E6.tr E14)))) ⟨(Lay_X4_17 (f0.ext (EB.tr (E1.tr (E6.tr E14))))).2.1, (Lay_X4_17 (f0.ext (EB.tr (E1.tr (E6.tr E14))))).2.2⟩ l hw) (As := [rV (x0 + 5), iV x1, iV x2]) (rest := []) rfl xc10 (Lay_X4.tag (f0.ext (EB.tr (E1.tr (E6.tr E14))))) (lw_V q2198 q2200 qs90 q129 q2201) hy_X4_timeOf rfl rfl (Nat.le_of_ble_eq_true rfl) (Nat.le_of_ble_eq_true rfl) (Nat.le_of_ble_eq_true rfl) (kkI (fun r27 m27 E27 hw => ?_))
      have hw := hw E27
      refine x_goto HE 38 dX4_time_30 (by decide) ?_
      exact w_X4_time_38 HE hr f0 hw
theorem k_X4_time {G : GT} {x0 x1 x2 : Int} {Q : Int → Hp → Prop} {h : Hp} (f0 : Lay_X4 h x0) (l : Launch) (hw : g_X4_time x0 x1 x2 Q h) : XM G l yX4_time cX4_time 3 (some .int) 3 72 [rV x0, iV x1, iV x2] (QI Q) h :=
  XM.of (by decide) (Nat.le_of_ble_eq_true rfl) (fun X HE hr hn => w_X4_time_0 HE hr f0 hw)
def g_X4_costsOf_b38 (x0 x1 : Int) (Q : Int → Hp → Prop) (l2 : Int) (h : Hp) : Prop :=
  Q l2 h
theorem w_X4_costsOf_38 {G : GT} {X : ET} {h0 : Hp} {x0 x1 : Int} (HE : XE G X cX4_costsOf 4 RX4 1 22 h0) (hr : XR X (some .int)) (f0 : Lay_X4 h0 x0) {Q : Int → Hp → Prop} {l2 : Int} {h : Hp} (hw : g_X4_costsOf_b38 x0 x1 Q l2 h) : Wx G X h0 (QI Q) h 38 [some (rV x0), some (iV x1), some (iV l2), none] [] := by
  refine Wx.start (fun EB => ?_)
  unfold g_X4_costsOf_b38 at hw
  refine x_iload_n HE 2 dX4_costsOf_38 rfl rfl ?_
  exact x_iret HE hr dX4_costsOf_39 hw
def g_X4_costsOf_L4 (x0 x1 : Int) (Q : Int → Hp → Prop) (K4 : Int → Int → Hp → Prop) (l2 l3 : Int) (h : Hp) : Prop :=
  ((5 ≤ l3) → (g_X4_costsOf_b38 x0 x1 Q l2 h)) ∧ ((l3 < 5) → (g_X4_wantsOf x0 x1 l3 (fun r13 m13 => Ext h m13 → ((i32 (3 * l3)) ∧ ((i32 (8 + (3 * l3))) ∧ ((i32 ((8 + (3 * l3)) + 2)) ∧ (((0 : Int) ≤ ((8 + (3 * l3)) + 2) ∧ ((8 + (3 * l3)) + 2) < 347) ∧ ((i32 (r13 * (hA m13 (x0 + 3) ((8 + (3 * l3)) + 2)))) ∧ ((i32 (l2 + (r13 * (hA m13 (x0 + 3) ((8 + (3 * l3)) + 2))))) ∧ (∀ y31 : Int, y31 = (l2 + (r13 * (hA m13 (x0 + 3) ((8 + (3 * l3)) + 2)))) → ((i32 (l3 + 1)) ∧ (∀ y32 : Int, y32 = l3 + 1 → (K4 y31 y32 m13))))))))))) h))
theorem w_X4_costsOf_4 {G : GT} {X : ET} {h0 : Hp} {x0 x1 : Int} (HE : XE G X cX4_costsOf 4 RX4 1 22 h0) (hr : XR X (some .int)) (f0 : Lay_X4 h0 x0) {Q : Int → Hp → Prop} {K4 : Int → Int → Hp → Prop} (hK4 : ∀ (l2 l3 : Int) (h : Hp), K4 l2 l3 h → Wx G X h0 (QI Q) h 4 [some (rV x0), some (iV x1), some (iV l2), some (iV l3)] []) {l2 l3 : Int} {h : Hp} (hw : g_X4_costsOf_L4 x0 x1 Q K4 l2 l3 h) : Wx G X h0 (QI Q) h 4 [some (rV x0), some (iV x1), some (iV l2), some (iV l3)] [] := by
  refine Wx.start (fun EB => ?_)
  unfold g_X4_costsOf_L4 at hw
  refine x_iload_n HE 3 dX4_costsOf_4 rfl rfl ?_
  refine x_iconst HE dX4_costsOf_5 (by decide) ?_
  refine x_ic_ge HE 38 dX4_costsOf_6 (by decide) (fun c6 => ?_) (fun c6 => ?_)
  · have hw := hw.1 c6
    refine Wx.mask [true, true, true, false] (lo2 := [some (rV x0), some (iV x1), some (iV l2), none]) rfl ?_
    exact w_X4_costsOf_38 HE hr f0 hw
  · have hw := hw.2 c6
    refine x_iload_n HE 2 dX4_costsOf_9 rfl rfl ?_
    refine x_aload_n HE 0 dX4_costsOf_10 rfl rfl ?_
    refine x_iload_n HE 1 dX4_costsOf_11 rfl rfl ?_
    refine x_iload_n HE 3 dX4_costsOf_12 rfl rfl ?_
    refine x_callV HE dX4_costsOf_13 rfl (fun l => k_X4_wantsOf (f0.ext EB) l hw) (As := [iV x1, iV l3]) (rest := [iV l2]) rfl xc10 (Lay_X4.tag (f0.ext EB)) (lw_V q2206 q2208 qs92 q129 q2209) hy_X4_wantsOf rfl rfl (Nat.le_of_ble_eq_true rfl) (Nat.le_of_ble_eq_true rfl) (Nat.le_of_ble_eq_true rfl) (kkI (fun r13 m13 E13 hw => ?_))
    have hw := hw E13
    refine x_aload_n HE 0 dX4_costsOf_16 rfl rfl ?_
    refine x_gR HE dX4_costsOf_17 fd_X4_15 q1852 (Or.inl rfl) (Lay_X4.tag (f0.ext (EB.tr E13))) (Lay_X4_15 (f0.ext (EB.tr E13))).1 ?_
    refine x_bipush HE dX4_costsOf_20 (by decide) ?_
    refine x_iconst HE dX4_costsOf_22 (by decide) ?_
    refine x_iload_n HE 3 dX4_costsOf_23 rfl rfl ?_
    obtain ⟨v24, hw⟩ := hw
    refine x_imul HE dX4_costsOf_24 v24 ?_
    obtain ⟨v25, hw⟩ := hw
    refine x_iadd HE dX4_costsOf_25 v25 ?_
    refine x_iconst HE dX4_costsOf_26 (by decide) ?_
    obtain ⟨v27, hw⟩ := hw
    refine x_iadd HE dX4_costsOf_27 v27 ?_
    obtain ⟨i28, hw⟩ := hw
    refine x_iald HE dX4_costsOf_28 (t := 1) (by decide) ((Lay_X4_15 (f0.ext (EB.tr E13))).2.1) (ix_of ((Lay_X4_15 (f0.ext (EB.tr E13))).2.2) i28) rfl ?_
    obtain ⟨v29, hw⟩ := hw
    refine x_imul HE dX4_costsOf_29 v29 ?_
    obtain ⟨v30, hw⟩ := hw
    refine x_iadd HE dX4_costsOf_30 v30 ?_
    refine x_istore_nN HE 2 (fun y31 => [some (rV x0), some (iV x1), some (iV y31), some (iV l3)]) dX4_costsOf_31 rfl (Nat.le_of_ble_eq_true rfl) (fun _ => rfl) (fun y31 ey31 => ?_)
    have hw := hw y31 ey31
    obtain ⟨v32, hw⟩ := hw
    refine x_iincN HE (fun y32 => [some (rV x0), some (iV x1), some (iV y31), some (iV y32)]) dX4_costsOf_32 rfl v32 (Nat.le_of_ble_eq_true rfl) (fun _ => rfl) (fun y32 ey32 => ?_)
    have hw := hw y32 ey32
    refine x_goto HE 4 dX4_costsOf_35 (by decide) ?_
    exact hK4 _ _ _ hw
theorem wl_X4_costsOf_4 {G : GT} {X : ET} {h0 : Hp} {x0 x1 : Int} (HE : XE G X cX4_costsOf 4 RX4 1 22 h0) (hr : XR X (some .int)) (f0 : Lay_X4 h0 x0) {Q : Int → Hp → Prop} {l2 l3 : Int} {h : Hp} (hw : Lp2 (g_X4_costsOf_L4 x0 x1 Q) l2 l3 h) : Wx G X h0 (QI Q) h 4 [some (rV x0), some (iV x1), some (iV l2), some (iV l3)] [] := by
  obtain ⟨n, hw⟩ := hw
  induction n generalizing l2 l3 h with
  | zero => exact hw.elim
  | succ n ih => exact w_X4_costsOf_4 HE hr f0 (fun _ _ _ hk => ih hk) hw
def g_X4_costsOf (x0 x1 : Int) (Q : Int → Hp → Prop) (h : Hp) : Prop :=
  Lp2 (g_X4_costsOf_L4 x0 x1 Q) 0 0 h
theorem w_X4_costsOf_0 {G : GT} {X : ET} {h0 : Hp} {x0 x1 : Int} (HE : XE G X cX4_costsOf 4 RX4 1 22 h0) (hr : XR X (some .int)) (f0 : Lay_X4 h0 x0) {Q : Int → Hp → Prop} {h : Hp} (hw : g_X4_costsOf x0 x1 Q h) : Wx G X h0 (QI Q) h 0 [some (rV x0), some (iV x1), none, none] [] := by
  refine Wx.start (fun EB => ?_)
  unfold g_X4_costsOf at hw
  refine x_iconst HE dX4_costsOf_0 (by decide) ?_
  refine x_istore_n HE 2 (lo' := [some (rV x0), some (iV x1), some (iV 0), none]) dX4_costsOf_1 rfl (Nat.le_of_ble_eq_true rfl) rfl ?_
  refine x_iconst HE dX4_costsOf_2 (by decide) ?_
  refine x_istore_n HE 3 (lo' := [some (rV x0), some (iV x1), some (iV 0), some (iV 0)]) dX4_costsOf_3 rfl (Nat.le_of_ble_eq_true rfl) rfl ?_
  exact wl_X4_costsOf_4 HE hr f0 hw
theorem k_X4_costsOf {G : GT} {x0 x1 : Int} {Q : Int → Hp → Prop} {h : Hp} (f0 : Lay_X4 h x0) (l : Launch) (hw : g_X4_costsOf x0 x1 Q h) : XM G l yX4_costsOf cX4_costsOf 4 (some .int) 1 22 [rV x0, iV x1] (QI Q) h :=
  XM.of (by decide) (Nat.le_of_ble_eq_true rfl) (fun X HE hr hn => w_X4_costsOf_0 HE hr f0 hw)
def g_X4_costs_b25 (x0 x1 : Int) (Q : Int → Hp → Prop) (s0 : Int) (h : Hp) : Prop :=
  Q s0 h
theorem w_X4_costs_25 {G : GT} {X : ET} {h0 : Hp} {x0 x1 : Int} (HE : XE G X cX4_costs 2 RX4 2 45 h0) (hr : XR X (some .int)) (f0 : Lay_X4 h0 x0) {Q : Int → Hp → Prop} {s0 : Int} {h : Hp} (hw : g_X4_costs_b25 x0 x1 Q s0 h) : Wx G X h0 (QI Q) h 25 [some (rV x0), some (iV x1)] [iV s0] := by
  refine Wx.start (fun EB => ?_)
  unfold g_X4_costs_b25 at hw
  exact x_iret HE hr dX4_costs_25 hw
def g_X4_costs (x0 x1 : Int) (Q : Int → Hp → Prop) (h : Hp) : Prop :=
  g_X4_good x0 (fun m1 => Ext h m1 → (g_X4_isPerson x0 x1 (fun r6 m6 => Ext m1 m6 → (((r6 = 0) → (g_X4_no x0 1 (fun r22 m22 => Ext m6 m22 → (g_X4_costs_b25 x0 x1 Q r22 m22)) m6)) ∧ ((r6 ≠ 0) → (g_X4_costsOf x0 x1 (fun r14 m14 => Ext m6 m14 → (g_X4_costs_b25 x0 x1 Q r14 m14)) m6)))) m1)) h
theorem w_X4_costs_0 {G : GT} {X : ET} {h0 : Hp} {x0 x1 : Int} (HE : XE G X cX4_costs 2 RX4 2 45 h0) (hr : XR X (some .int)) (f0 : Lay_X4 h0 x0) {Q : Int → Hp → Prop} {h : Hp} (hw : g_X4_costs x0 x1 Q h) : Wx G X h0 (QI Q) h 0 [some (rV x0), some (iV x1)] [] := by
  refine Wx.start (fun EB => ?_)
  unfold g_X4_costs at hw
  refine x_aload_n HE 0 dX4_costs_0 rfl rfl ?_
  refine x_callV HE dX4_costs_1 rfl (fun l => k_X4_good (f0.ext EB) l hw) (As := []) (rest := []) rfl xc10 (Lay_X4.tag (f0.ext EB)) (lw_V q1955 q1957 qs55 q129 q1958) hy_X4_good rfl rfl (Nat.le_of_ble_eq_true rfl) (Nat.le_of_ble_eq_true rfl) (Nat.le_of_ble_eq_true rfl) (kkV (fun m1 E1 hw => ?_))
  have hw := hw E1
  refine x_aload_n HE 0 dX4_costs_4 rfl rfl ?_
  refine x_iload_n HE 1 dX4_costs_5 rfl rfl ?_
  refine x_callV HE dX4_costs_6 rfl (fun l => k_X4_isPerson (f0.ext (EB.tr E1)) l hw) (As := [iV x1]) (rest := []) rfl xc10 (Lay_X4.tag (f0.ext (EB.tr E1))) (lw_V q2144 q2146 qs84 q129 q2147) hy_X4_isPerson rfl rfl (Nat.le_of_ble_eq_true rfl) (Nat.le_of_ble_eq_true rfl) (Nat.le_of_ble_eq_true rfl) (kkI (fun r6 m6 E6 hw => ?_))
  have hw := hw E6
  refine x_if_eq HE 20 dX4_costs_9 (by decide) (fun c9 => ?_) (fun c9 => ?_)
  · have hw := hw.1 c9
    refine x_aload_n HE 0 dX4_costs_20 rfl rfl ?_
    refine x_iconst HE dX4_costs_21 (by decide) ?_
    refine x_callV HE dX4_costs_22 rfl (fun l => k_X4_no (f0.ext (EB.tr (E1.tr E6))) l hw) (As := [iV 1]) (rest := []) rfl xc10 (Lay_X4.tag (f0.ext (EB.tr (E1.tr E6)))) (lw_V q1962 q1964 qs56 q129 q1965) hy_X4_no rfl rfl (Nat.le_of_ble_eq_true rfl) (Nat.le_of_ble_eq_true rfl) (Nat.le_of_ble_eq_true rfl) (kkI (fun r22 m22 E22 hw => ?_))
    have hw := hw E22
    exact w_X4_costs_25 HE hr f0 hw
  · have hw := hw.2 c9
    refine x_aload_n HE 0 dX4_costs_12 rfl rfl ?_
    refine x_iload_n HE 1 dX4_costs_13 rfl rfl ?_
    refine x_callV HE dX4_costs_14 rfl (fun l => k_X4_costsOf (f0.ext (EB.tr (E1.tr E6))) l hw) (As := [iV x1]) (rest := []) rfl xc10 (Lay_X4.tag (f0.ext (EB.tr (E1.tr E6)))) (lw_V q2214 q2216 qs93 q129 q2217) hy_X4_costsOf rfl rfl (Nat.le_of_ble_eq_true rfl) (Nat.le_of_ble_eq_true rfl) (Nat.le_of_ble_eq_true rfl) (kkI (fun r14 m14 E14 hw => ?_))
    have hw := hw E14
    refine x_goto HE 25 dX4_costs_17 (by decide) ?_
    exact w_X4_costs_25 HE hr f0 hw
theorem k_X4_costs {G : GT} {x0 x1 : Int} {Q : Int → Hp → Prop} {h : Hp} (f0 : Lay_X4 h x0) (l : Launch) (hw : g_X4_costs x0 x1 Q h) : XM G l yX4_costs cX4_costs 2 (some .int) 2 45 [rV x0, iV x1] (QI Q) h :=
  XM.of (by decide) (Nat.le_of_ble_eq_true rfl) (fun X HE hr hn => w_X4_costs_0 HE hr f0 hw)
def g_X4_begin_b175 (x0 x1 x2 x3 : Int) (Q : Hp → Prop) (h : Hp) : Prop :=
  Q h
theorem w_X4_begin_175 {G : GT} {X : ET} {h0 : Hp} {x0 x1 x2 x3 : Int} (HE : XE G X cX4_begin 9 RX4 3 73 h0) (hr : XR X none) (f0 : Lay_X4 h0 x0) (f1 : (hT h0 x1 = 1 ∧ hL h0 x1 = 108)) {Q : Hp → Prop} {h : Hp} (hw : g_X4_begin_b175 x0 x1 x2 x3 Q  h) : Wx G X h0 (QV Q) h 175 [some (rV x0), some (rV x1), some (iV x2), some (iV x3), none, none, none, none, none] [] := by
  refine Wx.start (fun EB => ?_)
  unfold g_X4_begin_b175 at hw
  exact x_vret HE hr dX4_begin_175 hw
def g_X4_begin_b170 (x0 x1 x2 x3 : Int) (Q : Hp → Prop) (K13 : Int → Int → Hp → Prop) (l4 s0 : Int) (h : Hp) : Prop :=
  K13 l4 s0 h
theorem w_X4_begin_170 {G : GT} {X : ET} {h0 : Hp} {x0 x1 x2 x3 : Int} (HE : XE G X cX4_begin 9 RX4 3 73 h0) (hr : XR X none) (f0 : Lay_X4 h0 x0) (f1 : (hT h0 x1 = 1 ∧ hL h0 x1 = 108)) {Q : Hp → Prop} {K13 : Int → Int → Hp → Prop} (hK13 : ∀ (l4 l5 : Int) (h : Hp), K13 l4 l5 h → Wx G X h0 (QV Q) h 13 [some (rV x0), some (rV x1), some (iV x2), some (iV x3), some (iV l4), some (iV l5), none, none, none] []) {l4 s0 : Int} {h : Hp} (hw : g_X4_begin_b170 x0 x1 x2 x3 Q K13 l4 s0 h) : Wx G X h0 (QV Q) h 170 [some (rV x0), some (rV x1), some (iV x2), some (iV x3), some (iV l4), none, none, none, none] [iV s0] := by
  refine Wx.start (fun EB => ?_)
  unfold g_X4_begin_b170 at hw
  refine x_istore HE (lo' := [some (rV x0), some (rV x1), some (iV x2), some (iV x3), some (iV l4), some (iV s0), none, none, none]) dX4_begin_170 (Nat.le_of_ble_eq_true rfl) rfl ?_
  refine x_goto HE 13 dX4_begin_172 (by decide) ?_
  exact hK13 _ _ _ hw
def g_X4_begin_L13 (x0 x1 x2 x3 : Int) (Q : Hp → Prop) (K13 : Int → Int → Hp → Prop) (l4 l5 : Int) (h : Hp) : Prop :=
  ((l5 = (-2)) → (g_X4_begin_b175 x0 x1 x2 x3 Q h)) ∧ ((l5 ≠ (-2)) → ((i32 (8 * l5)) ∧ ((i32 (12 + (8 * l5))) ∧ (∀ y28 : Int, y28 = (12 + (8 * l5)) → ((i32 (4 * x2)) ∧ ((i32 (92 + (4 * x2))) ∧ (∀ y36 : Int, y36 = (92 + (4 * x2)) → ((i32 (6 * x2)) ∧ ((i32 ((6 * x2) + 4)) ∧ (((0 : Int) ≤ ((6 * x2) + 4) ∧ ((6 * x2) + 4) < 24) ∧ (((0 : Int) ≤ y36 ∧ y36 < 108) ∧ ((i32 (y28 + 1)) ∧ (((0 : Int) ≤ (y28 + 1) ∧ (y28 + 1) < 108) ∧ (g_X4_far (hA h x1 y36) (hA h x1 (y28 + 1)) (fun r61 m61 => Ext h m61 → ((i32 ((hA h (x0 + 9) ((6 * x2) + 4)) * r61)) ∧ ((i32 (l4 + ((hA h (x0 + 9) ((6 * x2) + 4)) * r61))) ∧ (g_X4_timeOf x0 x1 x2 l5 (fun r71 m71 => Ext m61 m71 → ((i32 ((l4 + ((hA h (x0 + 9) ((6 * x2) + 4)) * r61)) + r71)) ∧ (∀ y75 : Int, y75 = ((l4 + ((hA h (x0 + 9) ((6 * x2) + 4)) * r61)) + r71) → ((i32 (y28 + 0)) ∧ (((0 : Int) ≤ (y28 + 0) ∧ (y28 + 0) < 108) ∧ (∀ m83 : Hp, m83 = setA m71 x1 (y28 + 0) 2 → ((i32 (y28 + 4)) ∧ (((0 : Int) ≤ (y28 + 4) ∧ (y28 + 4) < 108) ∧ (∀ m91 : Hp, m91 = setA m83 x1 (y28 + 4) l4 → ((i32 (y28 + 5)) ∧ (((0 : Int) ≤ (y28 + 5) ∧ (y28 + 5) < 108) ∧ (∀ m99 : Hp, m99 = setA m91 x1 (y28 + 5) y75 → ((i32 (y28 + 6)) ∧ (((0 : Int) ≤ (y28 + 6) ∧ (y28 + 6) < 108) ∧ (∀ m107 : Hp, m107 = setA m99 x1 (y28 + 6) x2 → ((i32 (y28 + 1)) ∧ (((0 : Int) ≤ (y28 + 1) ∧ (y28 + 1) < 108) ∧ (((0 : Int) ≤ y36 ∧ y36 < 108) ∧ (∀ m117 : Hp, m117 = setA m107 x1 y36 (hA m107 x1 (y28 + 1)) → ((i32 (y36 + x3)) ∧ (((0 : Int) ≤ (y36 + x3) ∧ (y36 + x3) < 108) ∧ (∀ m125 : Hp, m125 = setA m117 x1 (y36 + x3) y75 → ((i32 (y36 + 3)) ∧ ((i32 (l5 + 1)) ∧ (((0 : Int) ≤ (y36 + 3) ∧ (y36 + 3) < 108) ∧ (∀ m135 : Hp, m135 = setA m125 x1 (y36 + 3) (l5 + 1) → ((i32 (2 + (hA m135 x1 1))) ∧ (((0 : Int) ≤ (2 + (hA m135 x1 1)) ∧ (2 + (hA m135 x1 1)) < 108) ∧ (∀ m144 : Hp, m144 = setA m135 x1 (2 + (hA m135 x1 1)) l5 → ((i32 ((hA m144 x1 1) + 1)) ∧ (∀ m151 : Hp, m151 = setA m144 x1 1 ((hA m144 x1 1) + 1) → (((l4 < y75) → (g_X4_begin_b170 x0 x1 x2 x3 Q K13 l4 (-2) m151)) ∧ ((y75 ≤ l4) → (g_X4_nextFor x0 x1 x2 (fun r162 m162 => Ext m151 m162 → (g_X4_begin_b170 x0 x1 x2 x3 Q K13 l4 r162 m162)) m151)))))))))))))))))))))))))))))))))) m61)))) h))))))))))))))
theorem w_X4_begin_13 {G : GT} {X : ET} {h0 : Hp} {x0 x1 x2 x3 : Int} (HE : XE G X cX4_begin 9 RX4 3 73 h0) (hr : XR X none) (f0 : Lay_X4 h0 x0) (f1 : (hT h0 x1 = 1 ∧ hL h0 x1 = 108)) {Q : Hp → Prop} {K13 : Int → Int → Hp → Prop} (hK13 : ∀ (l4 l5 : Int) (h : Hp), K13 l4 l5 h → Wx G X h0 (QV Q) h 13 [some (rV x0), some (rV x1), some (iV x2), some (iV x3), some (iV l4), some (iV l5), none, none, none] []) {l4 l5 : Int} {h : Hp} (hw : g_X4_begin_L13 x0 x1 x2 x3 Q K13 l4 l5 h) : Wx G X h0 (QV Q) h 13 [some (rV x0), some (rV x1), some (iV x2), some (iV x3), some (iV l4), some (iV l5), none, none, none] [] := by
  refine Wx.start (fun EB => ?_)
  unfold g_X4_begin_L13 at hw
  refine x_iload HE dX4_begin_13 rfl ?_
  refine x_bipush HE dX4_begin_15 (by decide) ?_
  refine x_ic_eq HE 175 dX4_begin_17 (by decide) (fun c17 => ?_) (fun c17 => ?_)
  · have hw := hw.1 c17
    refine Wx.mask [true, true, true, true, false, false, true, true, true] (lo2 := [some (rV x0), some (rV x1), some (iV x2), some (iV x3), none, none, none, none, none]) rfl ?_
    exact w_X4_begin_175 HE hr f0 f1 hw
  · have hw := hw.2 c17
    refine x_bipush HE dX4_begin_20 (by decide) ?_
    refine x_bipush HE dX4_begin_22 (by decide) ?_
    refine x_iload HE dX4_begin_24 rfl ?_
    obtain ⟨v26, hw⟩ := hw
    refine x_imul HE dX4_begin_26 v26 ?_
    obtain ⟨v27, hw⟩ := hw
    refine x_iadd HE dX4_begin_27 v27 ?_
    refine x_istoreN HE (fun y28 => [some (rV x0), some (rV x1), some (iV x2), some (iV x3), some (iV l4), some (iV l5), some (iV y28), none, none]) dX4_begin_28 (Nat.le_of_ble_eq_true rfl) (fun _ => rfl) (fun y28 ey28 => ?_)
    have hw := hw y28 ey28
    refine x_bipush HE dX4_begin_30 (by decide) ?_
    refine x_iconst HE dX4_begin_32 (by decide) ?_
    refine x_iload_n HE 2 dX4_begin_33 rfl rfl ?_
    obtain ⟨v34, hw⟩ := hw
    refine x_imul HE dX4_begin_34 v34 ?_
    obtain ⟨v35, hw⟩ := hw
    refine x_iadd HE dX4_begin_35 v35 ?_
    refine x_istoreN HE (fun y36 => [some (rV x0), some (rV x1), some (iV x2), some (iV x3), some (iV l4), some (iV l5), some (iV y28), some (iV y36), none]) dX4_begin_36 (Nat.le_of_ble_eq_true rfl) (fun _ => rfl) (fun y36 ey36 => ?_)
    have hw := hw y36 ey36
    refine x_iload HE dX4_begin_38 rfl ?_
    refine x_aload_n HE 0 dX4_begin_40 rfl rfl ?_
    refine x_gR HE dX4_begin_41 fd_X4_23 q1860 (Or.inl rfl) (Lay_X4.tag (f0.ext EB)) (Lay_X4_23 (f0.ext EB)).1 ?_
    refine x_bipush HE dX4_begin_44 (by decide) ?_
    refine x_iload_n HE 2 dX4_begin_46 rfl rfl ?_
    obtain ⟨v47, hw⟩ := hw
    refine x_imul HE dX4_begin_47 v47 ?_
    refine x_iconst HE dX4_begin_48 (by decide) ?_
    obtain ⟨v49, hw⟩ := hw
    refine x_iadd HE dX4_begin_49 v49 ?_
    obtain ⟨i50, hw⟩ := hw
    refine x_iald HE dX4_begin_50 (t := 1) (by decide) ((Lay_X4_23 (f0.ext EB)).2.1) (ix_of ((Lay_X4_23 (f0.ext EB)).2.2) i50) rfl ?_
    refine x_aload_n HE 1 dX4_begin_51 rfl rfl ?_
    refine x_iload HE dX4_begin_52 rfl ?_
    obtain ⟨i54, hw⟩ := hw
    refine x_iald HE dX4_begin_54 (t := 1) (by decide) (EB.tag f1.1 (by decide)) (ix_of (EB.len (by rw [f1.1]; decide) f1.2) i54) rfl ?_
    refine x_aload_n HE 1 dX4_begin_55 rfl rfl ?_
    refine x_iload HE dX4_begin_56 rfl ?_
    refine x_iconst HE dX4_begin_58 (by decide) ?_
    obtain ⟨v59, hw⟩ := hw
    refine x_iadd HE dX4_begin_59 v59 ?_
    obtain ⟨i60, hw⟩ := hw
    refine x_iald HE dX4_begin_60 (t := 1) (by decide) (EB.tag f1.1 (by decide)) (ix_of (EB.len (by rw [f1.1]; decide) f1.2) i60) rfl ?_
    refine x_callS HE dX4_begin_61 rfl (fun l => k_X4_far  l hw) (As := [iV (hA h x1 y36), iV (hA h x1 (y28 + 1))]) (rest := [iV (hA h (x0 + 9) ((6 * x2) + 4)), iV l4]) rfl (lw_S q2191 q2192 q129 q2193) hy_X4_far.2 rfl rfl (Nat.le_of_ble_eq_true rfl) (Nat.le_of_ble_eq_true rfl) (Nat.le_of_ble_eq_true rfl) (kkI (fun r61 m61 E61 hw => ?_))
    have hw := hw E61
    obtain ⟨v64, hw⟩ := hw
    refine x_imul HE dX4_begin_64 v64 ?_
    obtain ⟨v65, hw⟩ := hw
    refine x_iadd HE dX4_begin_65 v65 ?_
    refine x_aload_n HE 0 dX4_begin_66 rfl rfl ?_
    refine x_aload_n HE 1 dX4_begin_67 rfl rfl ?_
    refine x_iload_n HE 2 dX4_begin_68 rfl rfl ?_
    refine x_iload HE dX4_begin_69 rfl ?_
    refine x_callV HE dX4_begin_71 rfl (fun l => k_X4_timeOf (f0.ext (EB.tr E61)) ⟨((EB.tr E61).tag f1.1 (by decide)), ((EB.tr E61).len (by rw [f1.1]; decide) f1.2)⟩ l hw) (As := [rV x1, iV x2, iV l5]) (rest := [iV (l4 + ((hA h (x0 + 9) ((6 * x2) + 4)) * r61))]) rfl xc10 (Lay_X4.tag (f0.ext (EB.tr E61))) (lw_V q2198 q2200 qs90 q129 q2201) hy_X4_timeOf rfl rfl (Nat.le_of_ble_eq_true rfl) (Nat.le_of_ble_eq_true rfl) (Nat.le_of_ble_eq_true rfl) (kkI (fun r71 m71 E71 hw => ?_))
    have hw := hw E71
    obtain ⟨v74, hw⟩ := hw
    refine x_iadd HE dX4_begin_74 v74 ?_
    refine x_istoreN HE (fun y75 => [some (rV x0), some (rV x1), some (iV x2), some (iV x3), some (iV l4), some (iV l5), some (iV y28), some (iV y36), some (iV y75)]) dX4_begin_75 (Nat.le_of_ble_eq_true rfl) (fun _ => rfl) (fun y75 ey75 => ?_)
    have hw := hw y75 ey75
    refine x_aload_n HE 1 dX4_begin_77 rfl rfl ?_
    refine x_iload HE dX4_begin_78 rfl ?_
    refine x_iconst HE dX4_begin_80 (by decide) ?_
    obtain ⟨v81, hw⟩ := hw
    refine x_iadd HE dX4_begin_81 v81 ?_
    refine x_iconst HE dX4_begin_82 (by decide) ?_
    obtain ⟨i83, hw⟩ := hw
    refine x_iast HE dX4_begin_83 ((EB.tr (E61.tr E71)).tag f1.1 (by decide)) (ix_of ((EB.tr (E61.tr E71)).len (by rw [f1.1]; decide) f1.2) i83) (fun m83 em83 E83 => ?_)
    have hw := hw m83 em83
    refine x_aload_n HE 1 dX4_begin_84 rfl rfl ?_
    refine x_iload HE dX4_begin_85 rfl ?_
    refine x_iconst HE dX4_begin_87 (by decide) ?_
    obtain ⟨v88, hw⟩ := hw
    refine x_iadd HE dX4_begin_88 v88 ?_
    refine x_iload HE dX4_begin_89 rfl ?_
    obtain ⟨i91, hw⟩ := hw
    refine x_iast HE dX4_begin_91 ((EB.tr (E61.tr (E71.tr E83))).tag f1.1 (by decide)) (ix_of ((EB.tr (E61.tr (E71.tr E83))).len (by rw [f1.1]; decide) f1.2) i91) (fun m91 em91 E91 => ?_)
    have hw := hw m91 em91
    refine x_aload_n HE 1 dX4_begin_92 rfl rfl ?_
    refine x_iload HE dX4_begin_93 rfl ?_
    refine x_iconst HE dX4_begin_95 (by decide) ?_
    obtain ⟨v96, hw⟩ := hw
    refine x_iadd HE dX4_begin_96 v96 ?_
    refine x_iload HE dX4_begin_97 rfl ?_
    obtain ⟨i99, hw⟩ := hw
    refine x_iast HE dX4_begin_99 ((EB.tr (E61.tr (E71.tr (E83.tr E91)))).tag f1.1 (by decide)) (ix_of ((EB.tr (E61.tr (E71.tr (E83.tr E91)))).len (by rw [f1.1]; decide) f1.2) i99) (fun m99 em99 E99 => ?_)
    have hw := hw m99 em99
    refine x_aload_n HE 1 dX4_begin_100 rfl rfl ?_
    refine x_iload HE dX4_begin_101 rfl ?_
    refine x_bipush HE dX4_begin_103 (by decide) ?_
    obtain ⟨v105, hw⟩ := hw
    refine x_iadd HE dX4_begin_105 v105 ?_
    refine x_iload_n HE 2 dX4_begin_106 rfl rfl ?_
    obtain ⟨i107, hw⟩ := hw
    refine x_iast HE dX4_begin_107 ((EB.tr (E61.tr (E71.tr (E83.tr (E91.tr E99))))).tag f1.1 (by decide)) (ix_of ((EB.tr (E61.tr (E71.tr (E83.tr (E91.tr E99))))).len (by rw [f1.1]; decide) f1.2) i107) (fun m107 em107 E107 => ?_)
    have hw := hw m107 em107
    refine x_aload_n HE 1 dX4_begin_108 rfl rfl ?_
    refine x_iload HE dX4_begin_109 rfl ?_
    refine x_aload_n HE 1 dX4_begin_111 rfl rfl ?_
    refine x_iload HE dX4_begin_112 rfl ?_
    refine x_iconst HE dX4_begin_114 (by decide) ?_
    obtain ⟨v115, hw⟩ := hw
    refine x_iadd HE dX4_begin_115 v115 ?_
    obtain ⟨i116, hw⟩ := hw
    refine x_iald HE dX4_begin_116 (t := 1) (by decide) ((EB.tr (E61.tr (E71.tr (E83.tr (E91.tr (E99.tr E107)))))).tag f1.1 (by decide)) (ix_of ((EB.tr (E61.tr (E71.tr (E83.tr (E91.tr (E99.tr E107)))))).len (by rw [f1.1]; decide) f1.2) i116) rfl ?_
    obtain ⟨i117, hw⟩ := hw
    refine x_iast HE dX4_begin_117 ((EB.tr (E61.tr (E71.tr (E83.tr (E91.tr (E99.tr E107)))))).tag f1.1 (by decide)) (ix_of ((EB.tr (E61.tr (E71.tr (E83.tr (E91.tr (E99.tr E107)))))).len (by rw [f1.1]; decide) f1.2) i117) (fun m117 em117 E117 => ?_)
    have hw := hw m117 em117
    refine x_aload_n HE 1 dX4_begin_118 rfl rfl ?_
    refine x_iload HE dX4_begin_119 rfl ?_
    refine x_iload_n HE 3 dX4_begin_121 rfl rfl ?_
    obtain ⟨v122, hw⟩ := hw
    refine x_iadd HE dX4_begin_122 v122 ?_
    refine x_iload HE dX4_begin_123 rfl ?_
    obtain ⟨i125, hw⟩ := hw
    refine x_iast HE dX4_begin_125 ((EB.tr (E61.tr (E71.tr (E83.tr (E91.tr (E99.tr (E107.tr E117))))))).tag f1.1 (by decide)) (ix_of ((EB.tr (E61.tr (E71.tr (E83.tr (E91.tr (E99.tr (E107.tr E117))))))).len (by rw [f1.1]; decide) f1.2) i125) (fun m125 em125 E125 => ?_)
    have hw := hw m125 em125
    refine x_aload_n HE 1 dX4_begin_126 rfl rfl ?_
    refine x_iload HE dX4_begin_127 rfl ?_
    refine x_iconst HE dX4_begin_129 (by decide) ?_
    obtain ⟨v130, hw⟩ := hw
    refine x_iadd HE dX4_begin_130 v130 ?_
    refine x_iload HE dX4_begin_131 rfl ?_
    refine x_iconst HE dX4_begin_133 (by decide) ?_
    obtain ⟨v134, hw⟩ := hw
    refine x_iadd HE dX4_begin_134 v134 ?_
    obtain ⟨i135, hw⟩ := hw
    refine x_iast HE dX4_begin_135 ((EB.tr (E61.tr (E71.tr (E83.tr (E91.tr (E99.tr (E107.tr (E117.tr E125)))))))).tag f1.1 (by decide)) (ix_of ((EB.tr (E61.tr (E71.tr (E83.tr (E91.tr (E99.tr (E107.tr (E117.tr E125)))))))).len (by rw [f1.1]; decide) f1.2) i135) (fun m135 em135 E135 => ?_)
    have hw := hw m135 em135
    refine x_aload_n HE 1 dX4_begin_136 rfl rfl ?_
    refine x_iconst HE dX4_begin_137 (by decide) ?_
    refine x_aload_n HE 1 dX4_begin_138 rfl rfl ?_
    refine x_iconst HE dX4_begin_139 (by decide) ?_
    refine x_iald HE dX4_begin_140 (t := 1) (by decide) ((EB.tr (E61.tr (E71.tr (E83.tr (E91.tr (E99.tr (E107.tr (E117.tr (E125.tr E135))))))))).tag f1.1 (by decide)) (ix_of ((EB.tr (E61.tr (E71.tr (E83.tr (E91.tr (E99.tr (E107.tr (E117.tr (E125.tr E135))))))))).len (by rw [f1.1]; decide) f1.2) (by decide)) rfl ?_
    obtain ⟨v141, hw⟩ := hw
    refine x_iadd HE dX4_begin_141 v141 ?_
    refine x_iload HE dX4_begin_142 rfl ?_
    obtain ⟨i144, hw⟩ := hw
    refine x_iast HE dX4_begin_144 ((EB.tr (E61.tr (E71.tr (E83.tr (E91.tr (E99.tr (E107.tr (E117.tr (E125.tr E135))))))))).tag f1.1 (by decide)) (ix_of ((EB.tr (E61.tr (E71.tr (E83.tr (E91.tr (E99.tr (E107.tr (E117.tr (E125.tr E135))))))))).len (by rw [f1.1]; decide) f1.2) i144) (fun m144 em144 E144 => ?_)
    have hw := hw m144 em144
    refine x_aload_n HE 1 dX4_begin_145 rfl rfl ?_
    refine x_iconst HE dX4_begin_146 (by decide) ?_
    refine x_dup2 HE dX4_begin_147 (fun o => o) (fun o => o) ?_
    refine x_iald HE dX4_begin_148 (t := 1) (by decide) ((EB.tr (E61.tr (E71.tr (E83.tr (E91.tr (E99.tr (E107.tr (E117.tr (E125.tr (E135.tr E144)))))))))).tag f1.1 (by decide)) (ix_of ((EB.tr (E61.tr (E71.tr (E83.tr (E91.tr (E99.tr (E107.tr (E117.tr (E125.tr (E135.tr E144)))))))))).len (by rw [f1.1]; decide) f1.2) (by decide)) rfl ?_
    refine x_iconst HE dX4_begin_149 (by decide) ?_
    obtain ⟨v150, hw⟩ := hw
    refine x_iadd HE dX4_begin_150 v150 ?_
    refine x_iast HE dX4_begin_151 ((EB.tr (E61.tr (E71.tr (E83.tr (E91.tr (E99.tr (E107.tr (E117.tr (E125.tr (E135.tr E144)))))))))).tag f1.1 (by decide)) (ix_of ((EB.tr (E61.tr (E71.tr (E83.tr (E91.tr (E99.tr (E107.tr (E117.tr (E125.tr (E135.tr E144)))))))))).len (by rw [f1.1]; decide) f1.2) (by decide)) (fun m151 em151 E151 => ?_)
    have hw := hw m151 em151
    refine x_iload HE dX4_begin_152 rfl ?_
    refine x_iload HE dX4_begin_154 rfl ?_
    refine x_ic_gt HE 168 dX4_begin_156 (by decide) (fun c156 => ?_) (fun c156 => ?_)
    · have hw := hw.1 c156
      refine x_bipush HE dX4_begin_168 (by decide) ?_
      refine Wx.mask [true, true, true, true, true, false, false, false, false] (lo2 := [some (rV x0), some (rV x1), some (iV x2), some (iV x3), some (iV l4), none, none, none, none]) rfl ?_
      exact w_X4_begin_170 HE hr f0 f1 hK13 hw
    · have hw := hw.2 c156
      refine x_aload_n HE 0 dX4_begin_159 rfl rfl ?_
      refine x_aload_n HE 1 dX4_begin_160 rfl rfl ?_
      refine x_iload_n HE 2 dX4_begin_161 rfl rfl ?_
      refine x_callV HE dX4_begin_162 rfl (fun l => k_X4_nextFor (f0.ext (EB.tr (E61.tr (E71.tr (E83.tr (E91.tr (E99.tr (E107.tr (E117.tr (E125.tr (E135.tr (E144.tr E151)))))))))))) ⟨((EB.tr (E61.tr (E71.tr (E83.tr (E91.tr (E99.tr (E107.tr (E117.tr (E125.tr (E135.tr (E144.tr E151))))))))))).tag f1.1 (by decide)), ((EB.tr (E61.tr (E71.tr (E83.tr (E91.tr (E99.tr (E107.tr (E117.tr (E125.tr (E135.tr (E144.tr E151))))))))))).len (by rw [f1.1]; decide) f1.2)⟩ l hw) (As := [rV x1, iV x2]) (rest := []) rfl xc10 (Lay_X4.tag (f0.ext (EB.tr (E61.tr (E71.tr (E83.tr (E91.tr (E99.tr (E107.tr (E117.tr (E125.tr (E135.tr (E144.tr E151))))))))))))) (lw_V q2183 q2185 qs88 q129 q2186) hy_X4_nextFor rfl rfl (Nat.le_of_ble_eq_true rfl) (Nat.le_of_ble_eq_true rfl) (Nat.le_of_ble_eq_true rfl) (kkI (fun r162 m162 E162 hw => ?_))
      have hw := hw E162
      refine x_goto HE 170 dX4_begin_165 (by decide) ?_
      refine Wx.mask [true, true, true, true, true, false, false, false, false] (lo2 := [some (rV x0), some (rV x1), some (iV x2), some (iV x3), some (iV l4), none, none, none, none]) rfl ?_
      exact w_X4_begin_170 HE hr f0 f1 hK13 hw
theorem wl_X4_begin_13 {G : GT} {X : ET} {h0 : Hp} {x0 x1 x2 x3 : Int} (HE : XE G X cX4_begin 9 RX4 3 73 h0) (hr : XR X none) (f0 : Lay_X4 h0 x0) (f1 : (hT h0 x1 = 1 ∧ hL h0 x1 = 108)) {Q : Hp → Prop} {l4 l5 : Int} {h : Hp} (hw : Lp2 (g_X4_begin_L13 x0 x1 x2 x3 Q) l4 l5 h) : Wx G X h0 (QV Q) h 13 [some (rV x0), some (rV x1), some (iV x2), some (iV x3), some (iV l4), some (iV l5), none, none, none] [] := by
  obtain ⟨n, hw⟩ := hw
  induction n generalizing l4 l5 h with
  | zero => exact hw.elim
  | succ n ih => exact w_X4_begin_13 HE hr f0 f1 (fun _ _ _ hk => ih hk) hw
def g_X4_begin (x0 x1 x2 x3 : Int) (Q : Hp → Prop) (h : Hp) : Prop :=
  ∀ y3 : Int, y3 = (hA h x1 0) → (g_X4_nextFor x0 x1 x2 (fun r8 m8 => Ext h m8 → (Lp2 (g_X4_begin_L13 x0 x1 x2 x3 Q) y3 r8 m8)) h)
theorem w_X4_begin_0 {G : GT} {X : ET} {h0 : Hp} {x0 x1 x2 x3 : Int} (HE : XE G X cX4_begin 9 RX4 3 73 h0) (hr : XR X none) (f0 : Lay_X4 h0 x0) (f1 : (hT h0 x1 = 1 ∧ hL h0 x1 = 108)) {Q : Hp → Prop} {h : Hp} (hw : g_X4_begin x0 x1 x2 x3 Q h) : Wx G X h0 (QV Q) h 0 [some (rV x0), some (rV x1), some (iV x2), some (iV x3), none, none, none, none, none] [] := by
  refine Wx.start (fun EB => ?_)
  unfold g_X4_begin at hw
  refine x_aload_n HE 1 dX4_begin_0 rfl rfl ?_
  refine x_iconst HE dX4_begin_1 (by decide) ?_
  refine x_iald HE dX4_begin_2 (t := 1) (by decide) (EB.tag f1.1 (by decide)) (ix_of (EB.len (by rw [f1.1]; decide) f1.2) (by decide)) rfl ?_
  refine x_istoreN HE (fun y3 => [some (rV x0), some (rV x1), some (iV x2), some (iV x3), some (iV y3), none, none, none, none]) dX4_begin_3 (Nat.le_of_ble_eq_true rfl) (fun _ => rfl) (fun y3 ey3 => ?_)
  have hw := hw y3 ey3
  refine x_aload_n HE 0 dX4_begin_5 rfl rfl ?_
  refine x_aload_n HE 1 dX4_begin_6 rfl rfl ?_
  refine x_iload_n HE 2 dX4_begin_7 rfl rfl ?_
  refine x_callV HE dX4_begin_8 rfl (fun l => k_X4_nextFor (f0.ext EB) ⟨(EB.tag f1.1 (by decide)), (EB.len (by rw [f1.1]; decide) f1.2)⟩ l hw) (As := [rV x1, iV x2]) (rest := []) rfl xc10 (Lay_X4.tag (f0.ext EB)) (lw_V q2183 q2185 qs88 q129 q2186) hy_X4_nextFor rfl rfl (Nat.le_of_ble_eq_true rfl) (Nat.le_of_ble_eq_true rfl) (Nat.le_of_ble_eq_true rfl) (kkI (fun r8 m8 E8 hw => ?_))
  have hw := hw E8
  refine x_istore HE (lo' := [some (rV x0), some (rV x1), some (iV x2), some (iV x3), some (iV y3), some (iV r8), none, none, none]) dX4_begin_11 (Nat.le_of_ble_eq_true rfl) rfl ?_
  exact wl_X4_begin_13 HE hr f0 f1 hw
theorem k_X4_begin {G : GT} {x0 x1 x2 x3 : Int} {Q : Hp → Prop} {h : Hp} (f0 : Lay_X4 h x0) (f1 : (hT h x1 = 1 ∧ hL h x1 = 108)) (l : Launch) (hw : g_X4_begin x0 x1 x2 x3 Q h) : XM G l yX4_begin cX4_begin 9 none 3 73 [rV x0, rV x1, iV x2, iV x3] (QV Q) h :=
  XM.of (by decide) (Nat.le_of_ble_eq_true rfl) (fun X HE hr hn => w_X4_begin_0 HE hr f0 f1 hw)
def g_X4_second_b213 (x0 x1 : Int) (Q : Hp → Prop) (h : Hp) : Prop :=
  (i32 ((hA h x1 0) + 1)) ∧ (∀ m219 : Hp, m219 = setA h x1 0 ((hA h x1 0) + 1) → (Q m219))
theorem w_X4_second_213 {G : GT} {X : ET} {h0 : Hp} {x0 x1 : Int} (HE : XE G X cX4_second 6 RX4 4 101 h0) (hr : XR X none) (f0 : Lay_X4 h0 x0) (f1 : (hT h0 x1 = 1 ∧ hL h0 x1 = 108)) {Q : Hp → Prop} {h : Hp} (hw : g_X4_second_b213 x0 x1 Q  h) : Wx G X h0 (QV Q) h 213 [some (rV x0), some (rV x1), none, none, none, none] [] := by
  refine Wx.start (fun EB => ?_)
  unfold g_X4_second_b213 at hw
  refine x_aload_n HE 1 dX4_second_213 rfl rfl ?_
  refine x_iconst HE dX4_second_214 (by decide) ?_
  refine x_dup2 HE dX4_second_215 (fun o => o) (fun o => o) ?_
  refine x_iald HE dX4_second_216 (t := 1) (by decide) (EB.tag f1.1 (by decide)) (ix_of (EB.len (by rw [f1.1]; decide) f1.2) (by decide)) rfl ?_
  refine x_iconst HE dX4_second_217 (by decide) ?_
  obtain ⟨v218, hw⟩ := hw
  refine x_iadd HE dX4_second_218 v218 ?_
  refine x_iast HE dX4_second_219 (EB.tag f1.1 (by decide)) (ix_of (EB.len (by rw [f1.1]; decide) f1.2) (by decide)) (fun m219 em219 E219 => ?_)
  have hw := hw m219 em219
  exact x_vret HE hr dX4_second_220 hw
def g_X4_second_b207 (x0 x1 : Int) (Q : Hp → Prop) (K151 : Int → Int → Hp → Prop) (l2 l3 : Int) (h : Hp) : Prop :=
  (i32 (l3 + 1)) ∧ (∀ y207 : Int, y207 = l3 + 1 → (K151 l2 y207 h))
theorem w_X4_second_207 {G : GT} {X : ET} {h0 : Hp} {x0 x1 : Int} (HE : XE G X cX4_second 6 RX4 4 101 h0) (hr : XR X none) (f0 : Lay_X4 h0 x0) (f1 : (hT h0 x1 = 1 ∧ hL h0 x1 = 108)) {Q : Hp → Prop} {K151 : Int → Int → Hp → Prop} (hK151 : ∀ (l2 l3 : Int) (h : Hp), K151 l2 l3 h → Wx G X h0 (QV Q) h 151 [some (rV x0), some (rV x1), some (iV l2), some (iV l3), none, none] []) {l2 l3 : Int} {h : Hp} (hw : g_X4_second_b207 x0 x1 Q K151 l2 l3 h) : Wx G X h0 (QV Q) h 207 [some (rV x0), some (rV x1), some (iV l2), some (iV l3), none, none] [] := by
  refine Wx.start (fun EB => ?_)
  unfold g_X4_second_b207 at hw
  obtain ⟨v207, hw⟩ := hw
  refine x_iincN HE (fun y207 => [some (rV x0), some (rV x1), some (iV l2), some (iV y207), none, none]) dX4_second_207 rfl v207 (Nat.le_of_ble_eq_true rfl) (fun _ => rfl) (fun y207 ey207 => ?_)
  have hw := hw y207 ey207
  refine x_goto HE 151 dX4_second_210 (by decide) ?_
  exact hK151 _ _ _ hw
def g_X4_second_b201 (x0 x1 : Int) (Q : Hp → Prop) (K151 : Int → Int → Hp → Prop) (K162 : Int → Int → Int → Hp → Prop) (l2 l3 l4 : Int) (h : Hp) : Prop :=
  (i32 (l4 + 1)) ∧ (∀ y201 : Int, y201 = l4 + 1 → (K162 l2 l3 y201 h))
theorem w_X4_second_201 {G : GT} {X : ET} {h0 : Hp} {x0 x1 : Int} (HE : XE G X cX4_second 6 RX4 4 101 h0) (hr : XR X none) (f0 : Lay_X4 h0 x0) (f1 : (hT h0 x1 = 1 ∧ hL h0 x1 = 108)) {Q : Hp → Prop} {K151 : Int → Int → Hp → Prop} (hK151 : ∀ (l2 l3 : Int) (h : Hp), K151 l2 l3 h → Wx G X h0 (QV Q) h 151 [some (rV x0), some (rV x1), some (iV l2), some (iV l3), none, none] []) {K162 : Int → Int → Int → Hp → Prop} (hK162 : ∀ (l2 l3 l4 : Int) (h : Hp), K162 l2 l3 l4 h → Wx G X h0 (QV Q) h 162 [some (rV x0), some (rV x1), some (iV l2), some (iV l3), some (iV l4), none] []) {l2 l3 l4 : Int} {h : Hp} (hw : g_X4_second_b201 x0 x1 Q K151 K162 l2 l3 l4 h) : Wx G X h0 (QV Q) h 201 [some (rV x0), some (rV x1), some (iV l2), some (iV l3), some (iV l4), none] [] := by
  refine Wx.start (fun EB => ?_)
  unfold g_X4_second_b201 at hw
  obtain ⟨v201, hw⟩ := hw
  refine x_iincN HE (fun y201 => [some (rV x0), some (rV x1), some (iV l2), some (iV l3), some (iV y201), none]) dX4_second_201 rfl v201 (Nat.le_of_ble_eq_true rfl) (fun _ => rfl) (fun y201 ey201 => ?_)
  have hw := hw y201 ey201
  refine x_goto HE 162 dX4_second_204 (by decide) ?_
  exact hK162 _ _ _ _ hw
def g_X4_second_L162 (x0 x1 : Int) (Q : Hp → Prop) (K151 : Int → Int → Hp → Prop) (K162 : Int → Int → Int → Hp → Prop) (l2 l3 l4 : Int) (h : Hp) : Prop :=
  (i32 (6 * l3)) ∧ ((i32 ((6 * l3) + 5)) ∧ (((0 : Int) ≤ ((6 * l3) + 5) ∧ ((6 * l3) + 5) < 24) ∧ ((((hA h (x0 + 9) ((6 * l3) + 5)) < l4) → (g_X4_second_b207 x0 x1 Q K151 l2 l3 h)) ∧ ((l4 ≤ (hA h (x0 + 9) ((6 * l3) + 5))) → ((i32 (4 * l3)) ∧ ((i32 (92 + (4 * l3))) ∧ ((i32 ((92 + (4 * l3)) + l4)) ∧ (((0 : Int) ≤ ((92 + (4 * l3)) + l4) ∧ ((92 + (4 * l3)) + l4) < 108) ∧ (((l2 < (hA h x1 ((92 + (4 * l3)) + l4))) → (g_X4_second_b201 x0 x1 Q K151 K162 l2 l3 l4 h)) ∧ (((hA h x1 ((92 + (4 * l3)) + l4)) ≤ l2) → (g_X4_begin x0 x1 l3 l4 (fun m198 => Ext h m198 → (g_X4_second_b201 x0 x1 Q K151 K162 l2 l3 l4 m198)) h)))))))))))
theorem w_X4_second_162 {G : GT} {X : ET} {h0 : Hp} {x0 x1 : Int} (HE : XE G X cX4_second 6 RX4 4 101 h0) (hr : XR X none) (f0 : Lay_X4 h0 x0) (f1 : (hT h0 x1 = 1 ∧ hL h0 x1 = 108)) {Q : Hp → Prop} {K151 : Int → Int → Hp → Prop} (hK151 : ∀ (l2 l3 : Int) (h : Hp), K151 l2 l3 h → Wx G X h0 (QV Q) h 151 [some (rV x0), some (rV x1), some (iV l2), some (iV l3), none, none] []) {K162 : Int → Int → Int → Hp → Prop} (hK162 : ∀ (l2 l3 l4 : Int) (h : Hp), K162 l2 l3 l4 h → Wx G X h0 (QV Q) h 162 [some (rV x0), some (rV x1), some (iV l2), some (iV l3), some (iV l4), none] []) {l2 l3 l4 : Int} {h : Hp} (hw : g_X4_second_L162 x0 x1 Q K151 K162 l2 l3 l4 h) : Wx G X h0 (QV Q) h 162 [some (rV x0), some (rV x1), some (iV l2), some (iV l3), some (iV l4), none] [] := by
  refine Wx.start (fun EB => ?_)
  unfold g_X4_second_L162 at hw
  refine x_iload HE dX4_second_162 rfl ?_
  refine x_aload_n HE 0 dX4_second_164 rfl rfl ?_
  refine x_gR HE dX4_second_165 fd_X4_23 q1860 (Or.inl rfl) (Lay_X4.tag (f0.ext EB)) (Lay_X4_23 (f0.ext EB)).1 ?_
  refine x_bipush HE dX4_second_168 (by decide) ?_
  refine x_iload_n HE 3 dX4_second_170 rfl rfl ?_
  obtain ⟨v171, hw⟩ := hw
  refine x_imul HE dX4_second_171 v171 ?_
  refine x_iconst HE dX4_second_172 (by decide) ?_
  obtain ⟨v173, hw⟩ := hw
  refine x_iadd HE dX4_second_173 v173 ?_
  obtain ⟨i174, hw⟩ := hw
  refine x_iald HE dX4_second_174 (t := 1) (by decide) ((Lay_X4_23 (f0.ext EB)).2.1) (ix_of ((Lay_X4_23 (f0.ext EB)).2.2) i174) rfl ?_
  refine x_ic_gt HE 207 dX4_second_175 (by decide) (fun c175 => ?_) (fun c175 => ?_)
  · have hw := hw.1 c175
    refine Wx.mask [true, true, true, true, false, true] (lo2 := [some (rV x0), some (rV x1), some (iV l2), some (iV l3), none, none]) rfl ?_
    exact w_X4_second_207 HE hr f0 f1 hK151 hw
  · have hw := hw.2 c175
    refine x_aload_n HE 1 dX4_second_178 rfl rfl ?_
    refine x_bipush HE dX4_second_179 (by decide) ?_
    refine x_iconst HE dX4_second_181 (by decide) ?_
    refine x_iload_n HE 3 dX4_second_182 rfl rfl ?_
    obtain ⟨v183, hw⟩ := hw
    refine x_imul HE dX4_second_183 v183 ?_
    obtain ⟨v184, hw⟩ := hw
    refine x_iadd HE dX4_second_184 v184 ?_
    refine x_iload HE dX4_second_185 rfl ?_
    obtain ⟨v187, hw⟩ := hw
    refine x_iadd HE dX4_second_187 v187 ?_
    obtain ⟨i188, hw⟩ := hw
    refine x_iald HE dX4_second_188 (t := 1) (by decide) (EB.tag f1.1 (by decide)) (ix_of (EB.len (by rw [f1.1]; decide) f1.2) i188) rfl ?_
    refine x_iload_n HE 2 dX4_second_189 rfl rfl ?_
    refine x_ic_gt HE 201 dX4_second_190 (by decide) (fun c190 => ?_) (fun c190 => ?_)
    · have hw := hw.1 c190
      exact w_X4_second_201 HE hr f0 f1 hK151 hK162 hw
    · have hw := hw.2 c190
      refine x_aload_n HE 0 dX4_second_193 rfl rfl ?_
      refine x_aload_n HE 1 dX4_second_194 rfl rfl ?_
      refine x_iload_n HE 3 dX4_second_195 rfl rfl ?_
      refine x_iload HE dX4_second_196 rfl ?_
      refine x_callV HE dX4_second_198 rfl (fun l => k_X4_begin (f0.ext EB) ⟨(EB.tag f1.1 (by decide)), (EB.len (by rw [f1.1]; decide) f1.2)⟩ l hw) (As := [rV x1, iV l3, iV l4]) (rest := []) rfl xc10 (Lay_X4.tag (f0.ext EB)) (lw_V q2234 q2236 qs97 q129 q2237) hy_X4_begin rfl rfl (Nat.le_of_ble_eq_true rfl) (Nat.le_of_ble_eq_true rfl) (Nat.le_of_ble_eq_true rfl) (kkV (fun m198 E198 hw => ?_))
      have hw := hw E198
      exact w_X4_second_201 HE hr f0 f1 hK151 hK162 hw
theorem wl_X4_second_162 {G : GT} {X : ET} {h0 : Hp} {x0 x1 : Int} (HE : XE G X cX4_second 6 RX4 4 101 h0) (hr : XR X none) (f0 : Lay_X4 h0 x0) (f1 : (hT h0 x1 = 1 ∧ hL h0 x1 = 108)) {Q : Hp → Prop} {K151 : Int → Int → Hp → Prop} (hK151 : ∀ (l2 l3 : Int) (h : Hp), K151 l2 l3 h → Wx G X h0 (QV Q) h 151 [some (rV x0), some (rV x1), some (iV l2), some (iV l3), none, none] []) {l2 l3 l4 : Int} {h : Hp} (hw : Lp3 (g_X4_second_L162 x0 x1 Q K151) l2 l3 l4 h) : Wx G X h0 (QV Q) h 162 [some (rV x0), some (rV x1), some (iV l2), some (iV l3), some (iV l4), none] [] := by
  obtain ⟨n, hw⟩ := hw
  induction n generalizing l2 l3 l4 h with
  | zero => exact hw.elim
  | succ n ih => exact w_X4_second_162 HE hr f0 f1 hK151 (fun _ _ _ _ hk => ih hk) hw
def g_X4_second_L151 (x0 x1 : Int) (Q : Hp → Prop) (K151 : Int → Int → Hp → Prop) (l2 l3 : Int) (h : Hp) : Prop :=
  (((hF h x0 25) ≤ l3) → (g_X4_second_b213 x0 x1 Q h)) ∧ ((l3 < (hF h x0 25)) → (Lp3 (g_X4_second_L162 x0 x1 Q K151) l2 l3 1 h))
theorem w_X4_second_151 {G : GT} {X : ET} {h0 : Hp} {x0 x1 : Int} (HE : XE G X cX4_second 6 RX4 4 101 h0) (hr : XR X none) (f0 : Lay_X4 h0 x0) (f1 : (hT h0 x1 = 1 ∧ hL h0 x1 = 108)) {Q : Hp → Prop} {K151 : Int → Int → Hp → Prop} (hK151 : ∀ (l2 l3 : Int) (h : Hp), K151 l2 l3 h → Wx G X h0 (QV Q) h 151 [some (rV x0), some (rV x1), some (iV l2), some (iV l3), none, none] []) {l2 l3 : Int} {h : Hp} (hw : g_X4_second_L151 x0 x1 Q K151 l2 l3 h) : Wx G X h0 (QV Q) h 151 [some (rV x0), some (rV x1), some (iV l2), some (iV l3), none, none] [] := by
  refine Wx.start (fun EB => ?_)
  unfold g_X4_second_L151 at hw
  refine x_iload_n HE 3 dX4_second_151 rfl rfl ?_
  refine x_aload_n HE 0 dX4_second_152 rfl rfl ?_
  refine x_gI HE dX4_second_153 fd_X4_25 q1862 (Or.inl rfl) (Lay_X4.tag (f0.ext EB)) rfl ?_
  refine x_ic_ge HE 213 dX4_second_156 (by decide) (fun c156 => ?_) (fun c156 => ?_)
  · have hw := hw.1 c156
    refine Wx.mask [true, true, false, false, true, true] (lo2 := [some (rV x0), some (rV x1), none, none, none, none]) rfl ?_
    exact w_X4_second_213 HE hr f0 f1 hw
  · have hw := hw.2 c156
    refine x_iconst HE dX4_second_159 (by decide) ?_
    refine x_istore HE (lo' := [some (rV x0), some (rV x1), some (iV l2), some (iV l3), some (iV 1), none]) dX4_second_160 (Nat.le_of_ble_eq_true rfl) rfl ?_
    exact wl_X4_second_162 HE hr f0 f1 hK151 hw
theorem wl_X4_second_151 {G : GT} {X : ET} {h0 : Hp} {x0 x1 : Int} (HE : XE G X cX4_second 6 RX4 4 101 h0) (hr : XR X none) (f0 : Lay_X4 h0 x0) (f1 : (hT h0 x1 = 1 ∧ hL h0 x1 = 108)) {Q : Hp → Prop} {l2 l3 : Int} {h : Hp} (hw : Lp2 (g_X4_second_L151 x0 x1 Q) l2 l3 h) : Wx G X h0 (QV Q) h 151 [some (rV x0), some (rV x1), some (iV l2), some (iV l3), none, none] [] := by
  obtain ⟨n, hw⟩ := hw
  induction n generalizing l2 l3 h with
  | zero => exact hw.elim
  | succ n ih => exact w_X4_second_151 HE hr f0 f1 (fun _ _ _ hk => ih hk) hw
def g_X4_second_b149 (x0 x1 : Int) (Q : Hp → Prop) (l2 : Int) (h : Hp) : Prop :=
  Lp2 (g_X4_second_L151 x0 x1 Q) l2 0 h
theorem w_X4_second_149 {G : GT} {X : ET} {h0 : Hp} {x0 x1 : Int} (HE : XE G X cX4_second 6 RX4 4 101 h0) (hr : XR X none) (f0 : Lay_X4 h0 x0) (f1 : (hT h0 x1 = 1 ∧ hL h0 x1 = 108)) {Q : Hp → Prop} {l2 : Int} {h : Hp} (hw : g_X4_second_b149 x0 x1 Q l2 h) : Wx G X h0 (QV Q) h 149 [some (rV x0), some (rV x1), some (iV l2), none, none, none] [] := by
  refine Wx.start (fun EB => ?_)
  unfold g_X4_second_b149 at hw
  refine x_iconst HE dX4_second_149 (by decide) ?_
  refine x_istore_n HE 3 (lo' := [some (rV x0), some (rV x1), some (iV l2), some (iV 0), none, none]) dX4_second_150 rfl (Nat.le_of_ble_eq_true rfl) rfl ?_
  exact wl_X4_second_151 HE hr f0 f1 hw
def g_X4_second_b143 (x0 x1 : Int) (Q : Hp → Prop) (K6 : Int → Int → Hp → Prop) (l2 l3 : Int) (h : Hp) : Prop :=
  (i32 (l3 + 1)) ∧ (∀ y143 : Int, y143 = l3 + 1 → (K6 l2 y143 h))
theorem w_X4_second_143 {G : GT} {X : ET} {h0 : Hp} {x0 x1 : Int} (HE : XE G X cX4_second 6 RX4 4 101 h0) (hr : XR X none) (f0 : Lay_X4 h0 x0) (f1 : (hT h0 x1 = 1 ∧ hL h0 x1 = 108)) {Q : Hp → Prop} {K6 : Int → Int → Hp → Prop} (hK6 : ∀ (l2 l3 : Int) (h : Hp), K6 l2 l3 h → Wx G X h0 (QV Q) h 6 [some (rV x0), some (rV x1), some (iV l2), some (iV l3), none, none] []) {l2 l3 : Int} {h : Hp} (hw : g_X4_second_b143 x0 x1 Q K6 l2 l3 h) : Wx G X h0 (QV Q) h 143 [some (rV x0), some (rV x1), some (iV l2), some (iV l3), none, none] [] := by
  refine Wx.start (fun EB => ?_)
  unfold g_X4_second_b143 at hw
  obtain ⟨v143, hw⟩ := hw
  refine x_iincN HE (fun y143 => [some (rV x0), some (rV x1), some (iV l2), some (iV y143), none, none]) dX4_second_143 rfl v143 (Nat.le_of_ble_eq_true rfl) (fun _ => rfl) (fun y143 ey143 => ?_)
  have hw := hw y143 ey143
  refine x_goto HE 6 dX4_second_146 (by decide) ?_
  exact hK6 _ _ _ hw
def g_X4_second_b111 (x0 x1 : Int) (Q : Hp → Prop) (K6 : Int → Int → Hp → Prop) (l2 l3 l4 : Int) (h : Hp) : Prop :=
  g_X4_man x0 l3 2 (fun r115 m115 => Ext h m115 → ((i32 (l2 - r115)) ∧ (g_X4_man x0 l3 4 (fun r122 m122 => Ext m115 m122 → ((((l2 - r115) < r122) → (g_X4_second_b143 x0 x1 Q K6 l2 l3 m122)) ∧ ((r122 ≤ (l2 - r115)) → ((i32 (l4 + 0)) ∧ (((0 : Int) ≤ (l4 + 0) ∧ (l4 + 0) < 108) ∧ (∀ m134 : Hp, m134 = setA m122 x1 (l4 + 0) 4 → ((i32 (l4 + 7)) ∧ (((0 : Int) ≤ (l4 + 7) ∧ (l4 + 7) < 108) ∧ (∀ m142 : Hp, m142 = setA m134 x1 (l4 + 7) l2 → (g_X4_second_b143 x0 x1 Q K6 l2 l3 m142)))))))))) m115))) h
theorem w_X4_second_111 {G : GT} {X : ET} {h0 : Hp} {x0 x1 : Int} (HE : XE G X cX4_second 6 RX4 4 101 h0) (hr : XR X none) (f0 : Lay_X4 h0 x0) (f1 : (hT h0 x1 = 1 ∧ hL h0 x1 = 108)) {Q : Hp → Prop} {K6 : Int → Int → Hp → Prop} (hK6 : ∀ (l2 l3 : Int) (h : Hp), K6 l2 l3 h → Wx G X h0 (QV Q) h 6 [some (rV x0), some (rV x1), some (iV l2), some (iV l3), none, none] []) {l2 l3 l4 : Int} {h : Hp} (hw : g_X4_second_b111 x0 x1 Q K6 l2 l3 l4 h) : Wx G X h0 (QV Q) h 111 [some (rV x0), some (rV x1), some (iV l2), some (iV l3), some (iV l4), none] [] := by
  refine Wx.start (fun EB => ?_)
  unfold g_X4_second_b111 at hw
  refine x_iload_n HE 2 dX4_second_111 rfl rfl ?_
  refine x_aload_n HE 0 dX4_second_112 rfl rfl ?_
  refine x_iload_n HE 3 dX4_second_113 rfl rfl ?_
  refine x_iconst HE dX4_second_114 (by decide) ?_
  refine x_callV HE dX4_second_115 rfl (fun l => k_X4_man (f0.ext EB) l hw) (As := [iV l3, iV 2]) (rest := [iV l2]) rfl xc10 (Lay_X4.tag (f0.ext EB)) (lw_V q2124 q2126 qs82 q129 q2127) hy_X4_man rfl rfl (Nat.le_of_ble_eq_true rfl) (Nat.le_of_ble_eq_true rfl) (Nat.le_of_ble_eq_true rfl) (kkI (fun r115 m115 E115 hw => ?_))
  have hw := hw E115
  obtain ⟨v118, hw⟩ := hw
  refine x_isub HE dX4_second_118 v118 ?_
  refine x_aload_n HE 0 dX4_second_119 rfl rfl ?_
  refine x_iload_n HE 3 dX4_second_120 rfl rfl ?_
  refine x_iconst HE dX4_second_121 (by decide) ?_
  refine x_callV HE dX4_second_122 rfl (fun l => k_X4_man (f0.ext (EB.tr E115)) l hw) (As := [iV l3, iV 4]) (rest := [iV (l2 - r115)]) rfl xc10 (Lay_X4.tag (f0.ext (EB.tr E115))) (lw_V q2124 q2126 qs82 q129 q2127) hy_X4_man rfl rfl (Nat.le_of_ble_eq_true rfl) (Nat.le_of_ble_eq_true rfl) (Nat.le_of_ble_eq_true rfl) (kkI (fun r122 m122 E122 hw => ?_))
  have hw := hw E122
  refine x_ic_lt HE 143 dX4_second_125 (by decide) (fun c125 => ?_) (fun c125 => ?_)
  · have hw := hw.1 c125
    refine Wx.mask [true, true, true, true, false, true] (lo2 := [some (rV x0), some (rV x1), some (iV l2), some (iV l3), none, none]) rfl ?_
    exact w_X4_second_143 HE hr f0 f1 hK6 hw
  · have hw := hw.2 c125
    refine x_aload_n HE 1 dX4_second_128 rfl rfl ?_
    refine x_iload HE dX4_second_129 rfl ?_
    refine x_iconst HE dX4_second_131 (by decide) ?_
    obtain ⟨v132, hw⟩ := hw
    refine x_iadd HE dX4_second_132 v132 ?_
    refine x_iconst HE dX4_second_133 (by decide) ?_
    obtain ⟨i134, hw⟩ := hw
    refine x_iast HE dX4_second_134 ((EB.tr (E115.tr E122)).tag f1.1 (by decide)) (ix_of ((EB.tr (E115.tr E122)).len (by rw [f1.1]; decide) f1.2) i134) (fun m134 em134 E134 => ?_)
    have hw := hw m134 em134
    refine x_aload_n HE 1 dX4_second_135 rfl rfl ?_
    refine x_iload HE dX4_second_136 rfl ?_
    refine x_bipush HE dX4_second_138 (by decide) ?_
    obtain ⟨v140, hw⟩ := hw
    refine x_iadd HE dX4_second_140 v140 ?_
    refine x_iload_n HE 2 dX4_second_141 rfl rfl ?_
    obtain ⟨i142, hw⟩ := hw
    refine x_iast HE dX4_second_142 ((EB.tr (E115.tr (E122.tr E134))).tag f1.1 (by decide)) (ix_of ((EB.tr (E115.tr (E122.tr E134))).len (by rw [f1.1]; decide) f1.2) i142) (fun m142 em142 E142 => ?_)
    have hw := hw m142 em142
    refine Wx.mask [true, true, true, true, false, true] (lo2 := [some (rV x0), some (rV x1), some (iV l2), some (iV l3), none, none]) rfl ?_
    exact w_X4_second_143 HE hr f0 f1 hK6 hw
def g_X4_second_b51 (x0 x1 : Int) (Q : Hp → Prop) (K6 : Int → Int → Hp → Prop) (l2 l3 l4 : Int) (h : Hp) : Prop :=
  (i32 (l4 + 0)) ∧ (((0 : Int) ≤ (l4 + 0) ∧ (l4 + 0) < 108) ∧ ((((hA h x1 (l4 + 0)) = 1) → (g_X4_man x0 l3 6 (fun r68 m68 => Ext h m68 → ((i32 (r68 - 1)) ∧ (∀ y73 : Int, y73 = (r68 - 1) → (((y73 < 0) → (g_X4_second_b111 x0 x1 Q K6 l2 l3 l4 m68)) ∧ ((0 ≤ y73) → (((l2 < y73) → (g_X4_second_b111 x0 x1 Q K6 l2 l3 l4 m68)) ∧ ((y73 ≤ l2) → ((i32 (l4 + 0)) ∧ (((0 : Int) ≤ (l4 + 0) ∧ (l4 + 0) < 108) ∧ (∀ m92 : Hp, m92 = setA m68 x1 (l4 + 0) 3 → ((i32 (l4 + 5)) ∧ (((0 : Int) ≤ (l4 + 5) ∧ (l4 + 5) < 108) ∧ (∀ m99 : Hp, m99 = setA m92 x1 (l4 + 5) l2 → ((i32 (l4 + 7)) ∧ (((0 : Int) ≤ (l4 + 7) ∧ (l4 + 7) < 108) ∧ (∀ m107 : Hp, m107 = setA m99 x1 (l4 + 7) l2 → (g_X4_second_b143 x0 x1 Q K6 l2 l3 m107))))))))))))))))) h)) ∧ (((hA h x1 (l4 + 0)) ≠ 1) → (g_X4_second_b143 x0 x1 Q K6 l2 l3 h))))
theorem w_X4_second_51 {G : GT} {X : ET} {h0 : Hp} {x0 x1 : Int} (HE : XE G X cX4_second 6 RX4 4 101 h0) (hr : XR X none) (f0 : Lay_X4 h0 x0) (f1 : (hT h0 x1 = 1 ∧ hL h0 x1 = 108)) {Q : Hp → Prop} {K6 : Int → Int → Hp → Prop} (hK6 : ∀ (l2 l3 : Int) (h : Hp), K6 l2 l3 h → Wx G X h0 (QV Q) h 6 [some (rV x0), some (rV x1), some (iV l2), some (iV l3), none, none] []) {l2 l3 l4 : Int} {h : Hp} (hw : g_X4_second_b51 x0 x1 Q K6 l2 l3 l4 h) : Wx G X h0 (QV Q) h 51 [some (rV x0), some (rV x1), some (iV l2), some (iV l3), some (iV l4), none] [] := by
  refine Wx.start (fun EB => ?_)
  unfold g_X4_second_b51 at hw
  refine x_aload_n HE 1 dX4_second_51 rfl rfl ?_
  refine x_iload HE dX4_second_52 rfl ?_
  refine x_iconst HE dX4_second_54 (by decide) ?_
  obtain ⟨v55, hw⟩ := hw
  refine x_iadd HE dX4_second_55 v55 ?_
  obtain ⟨i56, hw⟩ := hw
  refine x_iald HE dX4_second_56 (t := 1) (by decide) (EB.tag f1.1 (by decide)) (ix_of (EB.len (by rw [f1.1]; decide) f1.2) i56) rfl ?_
  refine x_iconst HE dX4_second_57 (by decide) ?_
  refine x_ic_eq HE 64 dX4_second_58 (by decide) (fun c58 => ?_) (fun c58 => ?_)
  · have hw := hw.1 c58
    refine x_aload_n HE 0 dX4_second_64 rfl rfl ?_
    refine x_iload_n HE 3 dX4_second_65 rfl rfl ?_
    refine x_bipush HE dX4_second_66 (by decide) ?_
    refine x_callV HE dX4_second_68 rfl (fun l => k_X4_man (f0.ext EB) l hw) (As := [iV l3, iV 6]) (rest := []) rfl xc10 (Lay_X4.tag (f0.ext EB)) (lw_V q2124 q2126 qs82 q129 q2127) hy_X4_man rfl rfl (Nat.le_of_ble_eq_true rfl) (Nat.le_of_ble_eq_true rfl) (Nat.le_of_ble_eq_true rfl) (kkI (fun r68 m68 E68 hw => ?_))
    have hw := hw E68
    refine x_iconst HE dX4_second_71 (by decide) ?_
    obtain ⟨v72, hw⟩ := hw
    refine x_isub HE dX4_second_72 v72 ?_
    refine x_istoreN HE (fun y73 => [some (rV x0), some (rV x1), some (iV l2), some (iV l3), some (iV l4), some (iV y73)]) dX4_second_73 (Nat.le_of_ble_eq_true rfl) (fun _ => rfl) (fun y73 ey73 => ?_)
    have hw := hw y73 ey73
    refine x_iload HE dX4_second_75 rfl ?_
    refine x_if_lt HE 111 dX4_second_77 (by decide) (fun c77 => ?_) (fun c77 => ?_)
    · have hw := hw.1 c77
      refine Wx.mask [true, true, true, true, true, false] (lo2 := [some (rV x0), some (rV x1), some (iV l2), some (iV l3), some (iV l4), none]) rfl ?_
      exact w_X4_second_111 HE hr f0 f1 hK6 hw
    · have hw := hw.2 c77
      refine x_iload HE dX4_second_80 rfl ?_
      refine x_iload_n HE 2 dX4_second_82 rfl rfl ?_
      refine x_ic_gt HE 111 dX4_second_83 (by decide) (fun c83 => ?_) (fun c83 => ?_)
      · have hw := hw.1 c83
        refine Wx.mask [true, true, true, true, true, false] (lo2 := [some (rV x0), some (rV x1), some (iV l2), some (iV l3), some (iV l4), none]) rfl ?_
        exact w_X4_second_111 HE hr f0 f1 hK6 hw
      · have hw := hw.2 c83
        refine x_aload_n HE 1 dX4_second_86 rfl rfl ?_
        refine x_iload HE dX4_second_87 rfl ?_
        refine x_iconst HE dX4_second_89 (by decide) ?_
        obtain ⟨v90, hw⟩ := hw
        refine x_iadd HE dX4_second_90 v90 ?_
        refine x_iconst HE dX4_second_91 (by decide) ?_
        obtain ⟨i92, hw⟩ := hw
        refine x_iast HE dX4_second_92 ((EB.tr E68).tag f1.1 (by decide)) (ix_of ((EB.tr E68).len (by rw [f1.1]; decide) f1.2) i92) (fun m92 em92 E92 => ?_)
        have hw := hw m92 em92
        refine x_aload_n HE 1 dX4_second_93 rfl rfl ?_
        refine x_iload HE dX4_second_94 rfl ?_
        refine x_iconst HE dX4_second_96 (by decide) ?_
        obtain ⟨v97, hw⟩ := hw
        refine x_iadd HE dX4_second_97 v97 ?_
        refine x_iload_n HE 2 dX4_second_98 rfl rfl ?_
        obtain ⟨i99, hw⟩ := hw
        refine x_iast HE dX4_second_99 ((EB.tr (E68.tr E92)).tag f1.1 (by decide)) (ix_of ((EB.tr (E68.tr E92)).len (by rw [f1.1]; decide) f1.2) i99) (fun m99 em99 E99 => ?_)
        have hw := hw m99 em99
        refine x_aload_n HE 1 dX4_second_100 rfl rfl ?_
        refine x_iload HE dX4_second_101 rfl ?_
        refine x_bipush HE dX4_second_103 (by decide) ?_
        obtain ⟨v105, hw⟩ := hw
        refine x_iadd HE dX4_second_105 v105 ?_
        refine x_iload_n HE 2 dX4_second_106 rfl rfl ?_
        obtain ⟨i107, hw⟩ := hw
        refine x_iast HE dX4_second_107 ((EB.tr (E68.tr (E92.tr E99))).tag f1.1 (by decide)) (ix_of ((EB.tr (E68.tr (E92.tr E99))).len (by rw [f1.1]; decide) f1.2) i107) (fun m107 em107 E107 => ?_)
        have hw := hw m107 em107
        refine x_goto HE 143 dX4_second_108 (by decide) ?_
        refine Wx.mask [true, true, true, true, false, false] (lo2 := [some (rV x0), some (rV x1), some (iV l2), some (iV l3), none, none]) rfl ?_
        exact w_X4_second_143 HE hr f0 f1 hK6 hw
  · have hw := hw.2 c58
    refine x_goto HE 143 dX4_second_61 (by decide) ?_
    refine Wx.mask [true, true, true, true, false, true] (lo2 := [some (rV x0), some (rV x1), some (iV l2), some (iV l3), none, none]) rfl ?_
    exact w_X4_second_143 HE hr f0 f1 hK6 hw
def g_X4_second_L6 (x0 x1 : Int) (Q : Hp → Prop) (K6 : Int → Int → Hp → Prop) (l2 l3 : Int) (h : Hp) : Prop :=
  (((hA h (x0 + 3) 5) ≤ l3) → (g_X4_second_b149 x0 x1 Q l2 h)) ∧ ((l3 < (hA h (x0 + 3) 5)) → ((i32 (8 * l3)) ∧ ((i32 (12 + (8 * l3))) ∧ (∀ y23 : Int, y23 = (12 + (8 * l3)) → ((i32 (y23 + 0)) ∧ (((0 : Int) ≤ (y23 + 0) ∧ (y23 + 0) < 108) ∧ ((((hA h x1 (y23 + 0)) ≠ 0) → (g_X4_second_b51 x0 x1 Q K6 l2 l3 y23 h)) ∧ (((hA h x1 (y23 + 0)) = 0) → (g_X4_man x0 l3 2 (fun r37 m37 => Ext h m37 → (((r37 ≠ l2) → (g_X4_second_b51 x0 x1 Q K6 l2 l3 y23 m37)) ∧ ((r37 = l2) → ((i32 (y23 + 0)) ∧ (((0 : Int) ≤ (y23 + 0) ∧ (y23 + 0) < 108) ∧ (∀ m50 : Hp, m50 = setA m37 x1 (y23 + 0) 1 → (g_X4_second_b51 x0 x1 Q K6 l2 l3 y23 m50))))))) h)))))))))
theorem w_X4_second_6 {G : GT} {X : ET} {h0 : Hp} {x0 x1 : Int} (HE : XE G X cX4_second 6 RX4 4 101 h0) (hr : XR X none) (f0 : Lay_X4 h0 x0) (f1 : (hT h0 x1 = 1 ∧ hL h0 x1 = 108)) {Q : Hp → Prop} {K6 : Int → Int → Hp → Prop} (hK6 : ∀ (l2 l3 : Int) (h : Hp), K6 l2 l3 h → Wx G X h0 (QV Q) h 6 [some (rV x0), some (rV x1), some (iV l2), some (iV l3), none, none] []) {l2 l3 : Int} {h : Hp} (hw : g_X4_second_L6 x0 x1 Q K6 l2 l3 h) : Wx G X h0 (QV Q) h 6 [some (rV x0), some (rV x1), some (iV l2), some (iV l3), none, none] [] := by
  refine Wx.start (fun EB => ?_)
  unfold g_X4_second_L6 at hw
  refine x_iload_n HE 3 dX4_second_6 rfl rfl ?_
  refine x_aload_n HE 0 dX4_second_7 rfl rfl ?_
  refine x_gR HE dX4_second_8 fd_X4_15 q1852 (Or.inl rfl) (Lay_X4.tag (f0.ext EB)) (Lay_X4_15 (f0.ext EB)).1 ?_
  refine x_iconst HE dX4_second_11 (by decide) ?_
  refine x_iald HE dX4_second_12 (t := 1) (by decide) ((Lay_X4_15 (f0.ext EB)).2.1) (ix_of ((Lay_X4_15 (f0.ext EB)).2.2) (by decide)) rfl ?_
  refine x_ic_ge HE 149 dX4_second_13 (by decide) (fun c13 => ?_) (fun c13 => ?_)
  · have hw := hw.1 c13
    refine Wx.mask [true, true, true, false, true, true] (lo2 := [some (rV x0), some (rV x1), some (iV l2), none, none, none]) rfl ?_
    exact w_X4_second_149 HE hr f0 f1 hw
  · have hw := hw.2 c13
    refine x_bipush HE dX4_second_16 (by decide) ?_
    refine x_bipush HE dX4_second_18 (by decide) ?_
    refine x_iload_n HE 3 dX4_second_20 rfl rfl ?_
    obtain ⟨v21, hw⟩ := hw
    refine x_imul HE dX4_second_21 v21 ?_
    obtain ⟨v22, hw⟩ := hw
    refine x_iadd HE dX4_second_22 v22 ?_
    refine x_istoreN HE (fun y23 => [some (rV x0), some (rV x1), some (iV l2), some (iV l3), some (iV y23), none]) dX4_second_23 (Nat.le_of_ble_eq_true rfl) (fun _ => rfl) (fun y23 ey23 => ?_)
    have hw := hw y23 ey23
    refine x_aload_n HE 1 dX4_second_25 rfl rfl ?_
    refine x_iload HE dX4_second_26 rfl ?_
    refine x_iconst HE dX4_second_28 (by decide) ?_
    obtain ⟨v29, hw⟩ := hw
    refine x_iadd HE dX4_second_29 v29 ?_
    obtain ⟨i30, hw⟩ := hw
    refine x_iald HE dX4_second_30 (t := 1) (by decide) (EB.tag f1.1 (by decide)) (ix_of (EB.len (by rw [f1.1]; decide) f1.2) i30) rfl ?_
    refine x_if_ne HE 51 dX4_second_31 (by decide) (fun c31 => ?_) (fun c31 => ?_)
    · have hw := hw.1 c31
      exact w_X4_second_51 HE hr f0 f1 hK6 hw
    · have hw := hw.2 c31
      refine x_aload_n HE 0 dX4_second_34 rfl rfl ?_
      refine x_iload_n HE 3 dX4_second_35 rfl rfl ?_
      refine x_iconst HE dX4_second_36 (by decide) ?_
      refine x_callV HE dX4_second_37 rfl (fun l => k_X4_man (f0.ext EB) l hw) (As := [iV l3, iV 2]) (rest := []) rfl xc10 (Lay_X4.tag (f0.ext EB)) (lw_V q2124 q2126 qs82 q129 q2127) hy_X4_man rfl rfl (Nat.le_of_ble_eq_true rfl) (Nat.le_of_ble_eq_true rfl) (Nat.le_of_ble_eq_true rfl) (kkI (fun r37 m37 E37 hw => ?_))
      have hw := hw E37
      refine x_iload_n HE 2 dX4_second_40 rfl rfl ?_
      refine x_ic_ne HE 51 dX4_second_41 (by decide) (fun c41 => ?_) (fun c41 => ?_)
      · have hw := hw.1 c41
        exact w_X4_second_51 HE hr f0 f1 hK6 hw
      · have hw := hw.2 c41
        refine x_aload_n HE 1 dX4_second_44 rfl rfl ?_
        refine x_iload HE dX4_second_45 rfl ?_
        refine x_iconst HE dX4_second_47 (by decide) ?_
        obtain ⟨v48, hw⟩ := hw
        refine x_iadd HE dX4_second_48 v48 ?_
        refine x_iconst HE dX4_second_49 (by decide) ?_
        obtain ⟨i50, hw⟩ := hw
        refine x_iast HE dX4_second_50 ((EB.tr E37).tag f1.1 (by decide)) (ix_of ((EB.tr E37).len (by rw [f1.1]; decide) f1.2) i50) (fun m50 em50 E50 => ?_)
        have hw := hw m50 em50
        exact w_X4_second_51 HE hr f0 f1 hK6 hw
theorem wl_X4_second_6 {G : GT} {X : ET} {h0 : Hp} {x0 x1 : Int} (HE : XE G X cX4_second 6 RX4 4 101 h0) (hr : XR X none) (f0 : Lay_X4 h0 x0) (f1 : (hT h0 x1 = 1 ∧ hL h0 x1 = 108)) {Q : Hp → Prop} {l2 l3 : Int} {h : Hp} (hw : Lp2 (g_X4_second_L6 x0 x1 Q) l2 l3 h) : Wx G X h0 (QV Q) h 6 [some (rV x0), some (rV x1), some (iV l2), some (iV l3), none, none] [] := by
  obtain ⟨n, hw⟩ := hw
  induction n generalizing l2 l3 h with
  | zero => exact hw.elim
  | succ n ih => exact w_X4_second_6 HE hr f0 f1 (fun _ _ _ hk => ih hk) hw
def g_X4_second (x0 x1 : Int) (Q : Hp → Prop) (h : Hp) : Prop :=
  ∀ y3 : Int, y3 = (hA h x1 0) → (Lp2 (g_X4_second_L6 x0 x1 Q) y3 0 h)
theorem w_X4_second_0 {G : GT} {X : ET} {h0 : Hp} {x0 x1 : Int} (HE : XE G X cX4_second 6 RX4 4 101 h0) (hr : XR X none) (f0 : Lay_X4 h0 x0) (f1 : (hT h0 x1 = 1 ∧ hL h0 x1 = 108)) {Q : Hp → Prop} {h : Hp} (hw : g_X4_second x0 x1 Q h) : Wx G X h0 (QV Q) h 0 [some (rV x0), some (rV x1), none, none, none, none] [] := by
  refine Wx.start (fun EB => ?_)
  unfold g_X4_second at hw
  refine x_aload_n HE 1 dX4_second_0 rfl rfl ?_
  refine x_iconst HE dX4_second_1 (by decide) ?_
  refine x_iald HE dX4_second_2 (t := 1) (by decide) (EB.tag f1.1 (by decide)) (ix_of (EB.len (by rw [f1.1]; decide) f1.2) (by decide)) rfl ?_
  refine x_istore_nN HE 2 (fun y3 => [some (rV x0), some (rV x1), some (iV y3), none, none, none]) dX4_second_3 rfl (Nat.le_of_ble_eq_true rfl) (fun _ => rfl) (fun y3 ey3 => ?_)
  have hw := hw y3 ey3
  refine x_iconst HE dX4_second_4 (by decide) ?_
  refine x_istore_n HE 3 (lo' := [some (rV x0), some (rV x1), some (iV y3), some (iV 0), none, none]) dX4_second_5 rfl (Nat.le_of_ble_eq_true rfl) rfl ?_
  exact wl_X4_second_6 HE hr f0 f1 hw
theorem k_X4_second {G : GT} {x0 x1 : Int} {Q : Hp → Prop} {h : Hp} (f0 : Lay_X4 h x0) (f1 : (hT h x1 = 1 ∧ hL h x1 = 108)) (l : Launch) (hw : g_X4_second x0 x1 Q h) : XM G l yX4_second cX4_second 6 none 4 101 [rV x0, rV x1] (QV Q) h :=
  XM.of (by decide) (Nat.le_of_ble_eq_true rfl) (fun X HE hr hn => w_X4_second_0 HE hr f0 f1 hw)
def g_X4_evening_b39 (x0 : Int) (Q : Hp → Prop) (h : Hp) : Prop :=
  Q h
theorem w_X4_evening_39 {G : GT} {X : ET} {h0 : Hp} {x0 : Int} (HE : XE G X cX4_evening 1 RX4 5 126 h0) (hr : XR X none) (f0 : Lay_X4 h0 x0) {Q : Hp → Prop} {h : Hp} (hw : g_X4_evening_b39 x0 Q  h) : Wx G X h0 (QV Q) h 39 [some (rV x0)] [] := by
  refine Wx.start (fun EB => ?_)
  unfold g_X4_evening_b39 at hw
  exact x_vret HE hr dX4_evening_39 hw
def g_X4_evening_L15 (x0 : Int) (Q : Hp → Prop) (K15 : Hp → Prop) (h : Hp) : Prop :=
  (((hF h x0 26) < (hA h (x0 + 6) 0)) → (g_X4_evening_b39 x0 Q h)) ∧ (((hA h (x0 + 6) 0) ≤ (hF h x0 26)) → (g_X4_second x0 (x0 + 6) (fun m33 => Ext h m33 → (K15 m33)) h))
theorem w_X4_evening_15 {G : GT} {X : ET} {h0 : Hp} {x0 : Int} (HE : XE G X cX4_evening 1 RX4 5 126 h0) (hr : XR X none) (f0 : Lay_X4 h0 x0) {Q : Hp → Prop} {K15 : Hp → Prop} (hK15 : ∀ (h : Hp), K15  h → Wx G X h0 (QV Q) h 15 [some (rV x0)] []) {h : Hp} (hw : g_X4_evening_L15 x0 Q K15  h) : Wx G X h0 (QV Q) h 15 [some (rV x0)] [] := by
  refine Wx.start (fun EB => ?_)
  unfold g_X4_evening_L15 at hw
  refine x_aload_n HE 0 dX4_evening_15 rfl rfl ?_
  refine x_gR HE dX4_evening_16 fd_X4_18 q1855 (Or.inl rfl) (Lay_X4.tag (f0.ext EB)) (Lay_X4_18 (f0.ext EB)).1 ?_
  refine x_iconst HE dX4_evening_19 (by decide) ?_
  refine x_iald HE dX4_evening_20 (t := 1) (by decide) ((Lay_X4_18 (f0.ext EB)).2.1) (ix_of ((Lay_X4_18 (f0.ext EB)).2.2) (by decide)) rfl ?_
  refine x_aload_n HE 0 dX4_evening_21 rfl rfl ?_
  refine x_gI HE dX4_evening_22 fd_X4_26 q1863 (Or.inl rfl) (Lay_X4.tag (f0.ext EB)) rfl ?_
  refine x_ic_gt HE 39 dX4_evening_25 (by decide) (fun c25 => ?_) (fun c25 => ?_)
  · have hw := hw.1 c25
    exact w_X4_evening_39 HE hr f0 hw
  · have hw := hw.2 c25
    refine x_aload_n HE 0 dX4_evening_28 rfl rfl ?_
    refine x_aload_n HE 0 dX4_evening_29 rfl rfl ?_
    refine x_gR HE dX4_evening_30 fd_X4_18 q1855 (Or.inl rfl) (Lay_X4.tag (f0.ext EB)) (Lay_X4_18 (f0.ext EB)).1 ?_
    refine x_callV HE dX4_evening_33 rfl (fun l => k_X4_second (f0.ext EB) ⟨(Lay_X4_18 (f0.ext EB)).2.1, (Lay_X4_18 (f0.ext EB)).2.2⟩ l hw) (As := [rV (x0 + 6)]) (rest := []) rfl xc10 (Lay_X4.tag (f0.ext EB)) (lw_V q2230 q2232 qs96 q129 q2233) hy_X4_second rfl rfl (Nat.le_of_ble_eq_true rfl) (Nat.le_of_ble_eq_true rfl) (Nat.le_of_ble_eq_true rfl) (kkV (fun m33 E33 hw => ?_))
    have hw := hw E33
    refine x_goto HE 15 dX4_evening_36 (by decide) ?_
    exact hK15 _ hw
theorem wl_X4_evening_15 {G : GT} {X : ET} {h0 : Hp} {x0 : Int} (HE : XE G X cX4_evening 1 RX4 5 126 h0) (hr : XR X none) (f0 : Lay_X4 h0 x0) {Q : Hp → Prop} {h : Hp} (hw : Lp0 (g_X4_evening_L15 x0 Q)  h) : Wx G X h0 (QV Q) h 15 [some (rV x0)] [] := by
  obtain ⟨n, hw⟩ := hw
  induction n generalizing  h with
  | zero => exact hw.elim
  | succ n ih => exact w_X4_evening_15 HE hr f0 (fun _ hk => ih hk) hw
def g_X4_evening (x0 : Int) (Q : Hp → Prop) (h : Hp) : Prop :=
  g_X4_copy (x0 + 5) 0 (x0 + 6) 0 108 (fun m12 => Ext h m12 → (Lp0 (g_X4_evening_L15 x0 Q) m12)) h
theorem w_X4_evening_0 {G : GT} {X : ET} {h0 : Hp} {x0 : Int} (HE : XE G X cX4_evening 1 RX4 5 126 h0) (hr : XR X none) (f0 : Lay_X4 h0 x0) {Q : Hp → Prop} {h : Hp} (hw : g_X4_evening x0 Q h) : Wx G X h0 (QV Q) h 0 [some (rV x0)] [] := by
  refine Wx.start (fun EB => ?_)
  unfold g_X4_evening at hw
  refine x_aload_n HE 0 dX4_evening_0 rfl rfl ?_
  refine x_gR HE dX4_evening_1 fd_X4_17 q1854 (Or.inl rfl) (Lay_X4.tag (f0.ext EB)) (Lay_X4_17 (f0.ext EB)).1 ?_
  refine x_iconst HE dX4_evening_4 (by decide) ?_
  refine x_aload_n HE 0 dX4_evening_5 rfl rfl ?_
  refine x_gR HE dX4_evening_6 fd_X4_18 q1855 (Or.inl rfl) (Lay_X4.tag (f0.ext EB)) (Lay_X4_18 (f0.ext EB)).1 ?_
  refine x_iconst HE dX4_evening_9 (by decide) ?_
  refine x_bipush HE dX4_evening_10 (by decide) ?_
  refine x_callS HE dX4_evening_12 rfl (fun l => k_X4_copy  l hw) (As := [rV (x0 + 5), iV 0, rV (x0 + 6), iV 0, iV 108]) (rest := []) rfl (lw_S q2113 q2114 q129 q2115) hy_X4_copy.2 rfl rfl (Nat.le_of_ble_eq_true rfl) (Nat.le_of_ble_eq_true rfl) (Nat.le_of_ble_eq_true rfl) (kkV (fun m12 E12 hw => ?_))
  have hw := hw E12
  exact wl_X4_evening_15 HE hr f0 hw
theorem k_X4_evening {G : GT} {x0 : Int} {Q : Hp → Prop} {h : Hp} (f0 : Lay_X4 h x0) (l : Launch) (hw : g_X4_evening x0 Q h) : XM G l yX4_evening cX4_evening 1 none 5 126 [rV x0] (QV Q) h :=
  XM.of (by decide) (Nat.le_of_ble_eq_true rfl) (fun X HE hr hn => w_X4_evening_0 HE hr f0 hw)
