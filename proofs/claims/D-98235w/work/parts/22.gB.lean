/-! written by tools/mkgen2.py -/
set_option maxRecDepth 100000
def g_X2_init (x0 x1 : Int) (Q : Hp → Prop) (h : Hp) : Prop :=
  ∀ m6 : Hp, m6 = setF h x0 0 x1 → (Q m6)
theorem w_X2_init_0 {G : GT} {X : ET} {h0 : Hp} {x0 x1 : Int} (HE : XE G X cX2_init 2 RX2 1 20 h0) (hr : XR X none) (hn : XN X "<init>") (f0 : hT h0 x0 = 23) {Q : Hp → Prop} {h : Hp} (hw : g_X2_init x0 x1 Q h) : Wx G X h0 (QV Q) h 0 [some (rV x0), some (iV x1)] [] := by
  refine Wx.start (fun EB => ?_)
  unfold g_X2_init at hw
  refine x_aload_n HE 0 dX2_init_0 rfl rfl ?_
  refine Wx.wf (fun wf1 => ?_)
  refine x_objInit HE dX2_init_1 rfl q177 q170 q171 (tag_pos wf1 (EB.tag f0 (by decide)) (by decide)) (Nat.le_of_ble_eq_true rfl) (Nat.le_of_ble_eq_true rfl) (Nat.le_of_ble_eq_true rfl) ?_
  refine x_aload_n HE 0 dX2_init_4 rfl rfl ?_
  refine x_iload_n HE 1 dX2_init_5 rfl rfl ?_
  refine x_pI HE dX2_init_6 fd_X2_0 q178 (Or.inl rfl) (Or.inr ⟨rfl, hn, rfl⟩) (nf_int _) (EB.tag f0 (by decide)) (nro (by decide)) (Or.inl nf_X2_0) (fun m6 em6 E6 => ?_)
  have hw := hw m6 em6
  exact x_vret HE hr dX2_init_9 hw
theorem k_X2_init {G : GT} {x0 x1 : Int} {Q : Hp → Prop} {h : Hp} (f0 : hT h x0 = 23) (l : Launch) (hw : g_X2_init x0 x1 Q h) : XM G l yX2_init cX2_init 2 none 1 20 [rV x0, iV x1] (QV Q) h :=
  XM.of (by decide) (Nat.le_of_ble_eq_true rfl) (fun X HE hr hn => w_X2_init_0 HE hr hn f0 hw)
def g_X2_init_at_X3 (x0 x1 : Int) (Q : Hp → Prop) (h : Hp) : Prop :=
  ∀ m6 : Hp, m6 = setF h x0 0 x1 → (Q m6)
theorem w_X2_init_at_X3_0 {G : GT} {X : ET} {h0 : Hp} {x0 x1 : Int} (HE : XE G X cX2_init 2 RX2 1 20 h0) (hr : XR X none) (hn : XN X "<init>") (f0 : hT h0 x0 = 24) {Q : Hp → Prop} {h : Hp} (hw : g_X2_init_at_X3 x0 x1 Q h) : Wx G X h0 (QV Q) h 0 [some (rV x0), some (iV x1)] [] := by
  refine Wx.start (fun EB => ?_)
  unfold g_X2_init_at_X3 at hw
  refine x_aload_n HE 0 dX2_init_0 rfl rfl ?_
  refine Wx.wf (fun wf1 => ?_)
  refine x_objInit HE dX2_init_1 rfl q177 q170 q171 (tag_pos wf1 (EB.tag f0 (by decide)) (by decide)) (Nat.le_of_ble_eq_true rfl) (Nat.le_of_ble_eq_true rfl) (Nat.le_of_ble_eq_true rfl) ?_
  refine x_aload_n HE 0 dX2_init_4 rfl rfl ?_
  refine x_iload_n HE 1 dX2_init_5 rfl rfl ?_
  refine x_pI HE dX2_init_6 fd_X3_0 q178 (Or.inl rfl) (Or.inr ⟨rfl, hn, rfl⟩) (nf_int _) (EB.tag f0 (by decide)) (nro (by decide)) (Or.inl nf_X3_0) (fun m6 em6 E6 => ?_)
  have hw := hw m6 em6
  exact x_vret HE hr dX2_init_9 hw
theorem k_X2_init_at_X3 {G : GT} {x0 x1 : Int} {Q : Hp → Prop} {h : Hp} (f0 : hT h x0 = 24) (l : Launch) (hw : g_X2_init_at_X3 x0 x1 Q h) : XM G l yX2_init cX2_init 2 none 1 20 [rV x0, iV x1] (QV Q) h :=
  XM.of (by decide) (Nat.le_of_ble_eq_true rfl) (fun X HE hr hn => w_X2_init_at_X3_0 HE hr hn f0 hw)
def g_X3_init (x0 x1 : Int) (Q : Hp → Prop) (h : Hp) : Prop :=
  g_X2_init_at_X3 x0 x1 (fun m2 => Ext h m2 → (Q m2)) h
theorem w_X3_init_0 {G : GT} {X : ET} {h0 : Hp} {x0 x1 : Int} (HE : XE G X cX3_init 2 RX3 2 41 h0) (hr : XR X none) (hn : XN X "<init>") (f0 : hT h0 x0 = 24) {Q : Hp → Prop} {h : Hp} (hw : g_X3_init x0 x1 Q h) : Wx G X h0 (QV Q) h 0 [some (rV x0), some (iV x1)] [] := by
  refine Wx.start (fun EB => ?_)
  unfold g_X3_init at hw
  refine x_aload_n HE 0 dX3_init_0 rfl rfl ?_
  refine x_iload_n HE 1 dX3_init_1 rfl rfl ?_
  refine Wx.wf (fun wf2 => ?_)
  refine x_callI HE dX3_init_2 rfl (fun l => k_X2_init_at_X3 (EB.tag f0 (by decide)) l hw) (As := [iV x1]) (rest := []) rfl (tag_pos wf2 (EB.tag f0 (by decide)) (by decide)) q193 q124 q175 q176 rfl hy_X2_init.2 rfl rfl (Nat.le_of_ble_eq_true rfl) (Nat.le_of_ble_eq_true rfl) (Nat.le_of_ble_eq_true rfl) (kkV (fun m2 E2 hw => ?_))
  have hw := hw E2
  exact x_vret HE hr dX3_init_5 hw
theorem k_X3_init {G : GT} {x0 x1 : Int} {Q : Hp → Prop} {h : Hp} (f0 : hT h x0 = 24) (l : Launch) (hw : g_X3_init x0 x1 Q h) : XM G l yX3_init cX3_init 2 none 2 41 [rV x0, iV x1] (QV Q) h :=
  XM.of (by decide) (Nat.le_of_ble_eq_true rfl) (fun X HE hr hn => w_X3_init_0 HE hr hn f0 hw)
def g_X1_in_b15 (x0 x1 x2 : Int) (Q : Int → Hp → Prop) (s0 : Int) (h : Hp) : Prop :=
  (s0 = 0 ∨ s0 = 1) ∧ Q s0 h
theorem w_X1_in_15 {G : GT} {X : ET} {h0 : Hp} {x0 x1 x2 : Int} (HE : XE G X cX1_in 3 RX1 0 0 h0) (hr : XR X (some .boolean)) {Q : Int → Hp → Prop} {s0 : Int} {h : Hp} (hw : g_X1_in_b15 x0 x1 x2 Q s0 h) : Wx G X h0 (QI Q) h 15 [some (iV x0), some (iV x1), some (iV x2)] [iV s0] := by
  refine Wx.start (fun EB => ?_)
  unfold g_X1_in_b15 at hw
  exact x_zret HE hr dX1_in_15 hw.1 hw.2
def g_X1_in_b14 (x0 x1 x2 : Int) (Q : Int → Hp → Prop) (h : Hp) : Prop :=
  g_X1_in_b15 x0 x1 x2 Q 0 h
theorem w_X1_in_14 {G : GT} {X : ET} {h0 : Hp} {x0 x1 x2 : Int} (HE : XE G X cX1_in 3 RX1 0 0 h0) (hr : XR X (some .boolean)) {Q : Int → Hp → Prop} {h : Hp} (hw : g_X1_in_b14 x0 x1 x2 Q  h) : Wx G X h0 (QI Q) h 14 [some (iV x0), some (iV x1), some (iV x2)] [] := by
  refine Wx.start (fun EB => ?_)
  unfold g_X1_in_b14 at hw
  refine x_iconst HE dX1_in_14 (by decide) ?_
  exact w_X1_in_15 HE hr hw
def g_X1_in (x0 x1 x2 : Int) (Q : Int → Hp → Prop) (h : Hp) : Prop :=
  ((x0 < x1) → (g_X1_in_b14 x0 x1 x2 Q h)) ∧ ((x1 ≤ x0) → (((x2 < x0) → (g_X1_in_b14 x0 x1 x2 Q h)) ∧ ((x0 ≤ x2) → (g_X1_in_b15 x0 x1 x2 Q 1 h))))
theorem w_X1_in_0 {G : GT} {X : ET} {h0 : Hp} {x0 x1 x2 : Int} (HE : XE G X cX1_in 3 RX1 0 0 h0) (hr : XR X (some .boolean)) {Q : Int → Hp → Prop} {h : Hp} (hw : g_X1_in x0 x1 x2 Q h) : Wx G X h0 (QI Q) h 0 [some (iV x0), some (iV x1), some (iV x2)] [] := by
  refine Wx.start (fun EB => ?_)
  unfold g_X1_in at hw
  refine x_iload_n HE 0 dX1_in_0 rfl rfl ?_
  refine x_iload_n HE 1 dX1_in_1 rfl rfl ?_
  refine x_ic_lt HE 14 dX1_in_2 (by decide) (fun c2 => ?_) (fun c2 => ?_)
  · have hw := hw.1 c2
    exact w_X1_in_14 HE hr hw
  · have hw := hw.2 c2
    refine x_iload_n HE 0 dX1_in_5 rfl rfl ?_
    refine x_iload_n HE 2 dX1_in_6 rfl rfl ?_
    refine x_ic_gt HE 14 dX1_in_7 (by decide) (fun c7 => ?_) (fun c7 => ?_)
    · have hw := hw.1 c7
      exact w_X1_in_14 HE hr hw
    · have hw := hw.2 c7
      refine x_iconst HE dX1_in_10 (by decide) ?_
      refine x_goto HE 15 dX1_in_11 (by decide) ?_
      exact w_X1_in_15 HE hr hw
theorem k_X1_in {G : GT} {x0 x1 x2 : Int} {Q : Int → Hp → Prop} {h : Hp} (l : Launch) (hw : g_X1_in x0 x1 x2 Q h) : XM G l yX1_in cX1_in 3 (some .boolean) 0 0 [iV x0, iV x1, iV x2] (QI Q) h :=
  XM.of (by decide) (Nat.le_of_ble_eq_true rfl) (fun X HE hr hn => w_X1_in_0 HE hr  hw)
def g_X7_init (x0 : Int) (Q : Hp → Prop) (h : Hp) : Prop :=
  (capOK h 3) ∧ (∀ (a5 : Int) (m5 : Hp), a5 = hN h → m5 = alloc h 32 0 3 → WFa h → (g_J2_init a5 (fun m9 => Ext m5 m9 → ((hF m9 x0 3 = 0) ∧ (∀ m12 : Hp, m12 = setF m9 x0 3 a5 → ((capOK m12 3) ∧ (∀ (a16 : Int) (m16 : Hp), a16 = hN m12 → m16 = alloc m12 32 0 3 → WFa m12 → (g_J2_init a16 (fun m20 => Ext m16 m20 → ((hF m20 x0 4 = 0) ∧ (∀ m23 : Hp, m23 = setF m20 x0 4 a16 → ((capOK m23 3) ∧ (∀ (a27 : Int) (m27 : Hp), a27 = hN m23 → m27 = alloc m23 32 0 3 → WFa m23 → (g_J2_init a27 (fun m31 => Ext m27 m31 → ((hF m31 x0 5 = 0) ∧ (∀ m34 : Hp, m34 = setF m31 x0 5 a27 → ((capOK m34 3) ∧ (∀ (a38 : Int) (m38 : Hp), a38 = hN m34 → m38 = alloc m34 32 0 3 → WFa m34 → (g_J2_init a38 (fun m42 => Ext m38 m42 → ((hF m42 x0 6 = 0) ∧ (∀ m45 : Hp, m45 = setF m42 x0 6 a38 → (Q m45)))) m38)))))) m27)))))) m16)))))) m5))
theorem w_X7_init_0 {G : GT} {X : ET} {h0 : Hp} {x0 : Int} (HE : XE G X cX7_init 1 RX7 4 80 h0) (hr : XR X none) (hn : XN X "<init>") (f0 : hT h0 x0 = 12) {Q : Hp → Prop} {h : Hp} (hw : g_X7_init x0 Q h) : Wx G X h0 (QV Q) h 0 [some (rV x0)] [] := by
  refine Wx.start (fun EB => ?_)
  unfold g_X7_init at hw
  refine x_aload_n HE 0 dX7_init_0 rfl rfl ?_
  refine Wx.wf (fun wf1 => ?_)
  refine x_objInit HE dX7_init_1 rfl q310 q170 q171 (tag_pos wf1 (EB.tag f0 (by decide)) (by decide)) (Nat.le_of_ble_eq_true rfl) (Nat.le_of_ble_eq_true rfl) (Nat.le_of_ble_eq_true rfl) ?_
  refine x_aload_n HE 0 dX7_init_4 rfl rfl ?_
  obtain ⟨v5, hw⟩ := hw
  refine x_newN HE dX7_init_5 xc32 (by decide) (nro (by decide)) q311 q197 q128 v5 (fun a5 m5 ea5 em5 E5 w5 => ?_)
  have hw := hw a5 m5 ea5 em5 w5
  have t5 := alloc_tag ea5 em5
  refine x_dup HE dX7_init_8 (fun o => o) ?_
  refine Wx.wf (fun wf9 => ?_)
  refine x_callI HE dX7_init_9 rfl (fun l => k_J2_init t5 l hw) (As := []) (rest := [rV a5, rV x0]) rfl (tag_pos wf9 t5 (by decide)) q312 q128 q199 q200 rfl hy_J2_init.2 rfl rfl (Nat.le_of_ble_eq_true rfl) (Nat.le_of_ble_eq_true rfl) (Nat.le_of_ble_eq_true rfl) (kkV (fun m9 E9 hw => ?_))
  have hw := hw E9
  obtain ⟨z12, hw⟩ := hw
  refine x_pR HE dX7_init_12 fd_X7_3 q320 (Or.inl rfl) (Or.inr ⟨rfl, hn, rfl⟩) (nf_obj _ _) ((EB.tr (E5.tr E9)).tag f0 (by decide)) (nro (by decide)) (Or.inr z12) (fun m12 em12 E12 => ?_)
  have hw := hw m12 em12
  refine x_aload_n HE 0 dX7_init_15 rfl rfl ?_
  obtain ⟨v16, hw⟩ := hw
  refine x_newN HE dX7_init_16 xc32 (by decide) (nro (by decide)) q311 q197 q128 v16 (fun a16 m16 ea16 em16 E16 w16 => ?_)
  have hw := hw a16 m16 ea16 em16 w16
  have t16 := alloc_tag ea16 em16
  refine x_dup HE dX7_init_19 (fun o => o) ?_
  refine Wx.wf (fun wf20 => ?_)
  refine x_callI HE dX7_init_20 rfl (fun l => k_J2_init t16 l hw) (As := []) (rest := [rV a16, rV x0]) rfl (tag_pos wf20 t16 (by decide)) q312 q128 q199 q200 rfl hy_J2_init.2 rfl rfl (Nat.le_of_ble_eq_true rfl) (Nat.le_of_ble_eq_true rfl) (Nat.le_of_ble_eq_true rfl) (kkV (fun m20 E20 hw => ?_))
  have hw := hw E20
  obtain ⟨z23, hw⟩ := hw
  refine x_pR HE dX7_init_23 fd_X7_4 q323 (Or.inl rfl) (Or.inr ⟨rfl, hn, rfl⟩) (nf_obj _ _) ((EB.tr (E5.tr (E9.tr (E12.tr (E16.tr E20))))).tag f0 (by decide)) (nro (by decide)) (Or.inr z23) (fun m23 em23 E23 => ?_)
  have hw := hw m23 em23
  refine x_aload_n HE 0 dX7_init_26 rfl rfl ?_
  obtain ⟨v27, hw⟩ := hw
  refine x_newN HE dX7_init_27 xc32 (by decide) (nro (by decide)) q311 q197 q128 v27 (fun a27 m27 ea27 em27 E27 w27 => ?_)
  have hw := hw a27 m27 ea27 em27 w27
  have t27 := alloc_tag ea27 em27
  refine x_dup HE dX7_init_30 (fun o => o) ?_
  refine Wx.wf (fun wf31 => ?_)
  refine x_callI HE dX7_init_31 rfl (fun l => k_J2_init t27 l hw) (As := []) (rest := [rV a27, rV x0]) rfl (tag_pos wf31 t27 (by decide)) q312 q128 q199 q200 rfl hy_J2_init.2 rfl rfl (Nat.le_of_ble_eq_true rfl) (Nat.le_of_ble_eq_true rfl) (Nat.le_of_ble_eq_true rfl) (kkV (fun m31 E31 hw => ?_))
  have hw := hw E31
  obtain ⟨z34, hw⟩ := hw
  refine x_pR HE dX7_init_34 fd_X7_5 q327 (Or.inl rfl) (Or.inr ⟨rfl, hn, rfl⟩) (nf_obj _ _) ((EB.tr (E5.tr (E9.tr (E12.tr (E16.tr (E20.tr (E23.tr (E27.tr E31)))))))).tag f0 (by decide)) (nro (by decide)) (Or.inr z34) (fun m34 em34 E34 => ?_)
  have hw := hw m34 em34
  refine x_aload_n HE 0 dX7_init_37 rfl rfl ?_
  obtain ⟨v38, hw⟩ := hw
  refine x_newN HE dX7_init_38 xc32 (by decide) (nro (by decide)) q311 q197 q128 v38 (fun a38 m38 ea38 em38 E38 w38 => ?_)
  have hw := hw a38 m38 ea38 em38 w38
  have t38 := alloc_tag ea38 em38
  refine x_dup HE dX7_init_41 (fun o => o) ?_
  refine Wx.wf (fun wf42 => ?_)
  refine x_callI HE dX7_init_42 rfl (fun l => k_J2_init t38 l hw) (As := []) (rest := [rV a38, rV x0]) rfl (tag_pos wf42 t38 (by decide)) q312 q128 q199 q200 rfl hy_J2_init.2 rfl rfl (Nat.le_of_ble_eq_true rfl) (Nat.le_of_ble_eq_true rfl) (Nat.le_of_ble_eq_true rfl) (kkV (fun m42 E42 hw => ?_))
  have hw := hw E42
  obtain ⟨z45, hw⟩ := hw
  refine x_pR HE dX7_init_45 fd_X7_6 q332 (Or.inl rfl) (Or.inr ⟨rfl, hn, rfl⟩) (nf_obj _ _) ((EB.tr (E5.tr (E9.tr (E12.tr (E16.tr (E20.tr (E23.tr (E27.tr (E31.tr (E34.tr (E38.tr E42))))))))))).tag f0 (by decide)) (nro (by decide)) (Or.inr z45) (fun m45 em45 E45 => ?_)
  have hw := hw m45 em45
  exact x_vret HE hr dX7_init_48 hw
theorem k_X7_init {G : GT} {x0 : Int} {Q : Hp → Prop} {h : Hp} (f0 : hT h x0 = 12) (l : Launch) (hw : g_X7_init x0 Q h) : XM G l yX7_init cX7_init 1 none 4 80 [rV x0] (QV Q) h :=
  XM.of (by decide) (Nat.le_of_ble_eq_true rfl) (fun X HE hr hn => w_X7_init_0 HE hr hn f0 hw)
def g_X7_drink_b42 (x0 x1 : Int) (Q : Int → Hp → Prop) (h : Hp) : Prop :=
  Q (-1) h
theorem w_X7_drink_42 {G : GT} {X : ET} {h0 : Hp} {x0 x1 : Int} (HE : XE G X cX7_drink 3 RX7 3 64 h0) (hr : XR X (some .int)) (f0 : Lay_X7 h0 x0) {Q : Int → Hp → Prop} {h : Hp} (hw : g_X7_drink_b42 x0 x1 Q  h) : Wx G X h0 (QI Q) h 42 [some (rV x0), some (rV x1), none] [] := by
  refine Wx.start (fun EB => ?_)
  unfold g_X7_drink_b42 at hw
  refine x_iconst HE dX7_drink_42 (by decide) ?_
  exact x_iret HE hr dX7_drink_43 hw
def g_X7_drink_b34 (x0 x1 : Int) (Q : Int → Hp → Prop) (l2 : Int) (h : Hp) : Prop :=
  Q l2 h
theorem w_X7_drink_34 {G : GT} {X : ET} {h0 : Hp} {x0 x1 : Int} (HE : XE G X cX7_drink 3 RX7 3 64 h0) (hr : XR X (some .int)) (f0 : Lay_X7 h0 x0) {Q : Int → Hp → Prop} {l2 : Int} {h : Hp} (hw : g_X7_drink_b34 x0 x1 Q l2 h) : Wx G X h0 (QI Q) h 34 [some (rV x0), some (rV x1), some (iV l2)] [] := by
  refine Wx.start (fun EB => ?_)
  unfold g_X7_drink_b34 at hw
  refine x_iload_n HE 2 dX7_drink_34 rfl rfl ?_
  exact x_iret HE hr dX7_drink_35 hw
def g_X7_drink_L2 (x0 x1 : Int) (Q : Int → Hp → Prop) (K2 : Int → Hp → Prop) (l2 : Int) (h : Hp) : Prop :=
  g_J2_size (x0 + 1) (fun r7 m7 => Ext h m7 → (((r7 ≤ l2) → (g_X7_drink_b42 x0 x1 Q m7)) ∧ ((l2 < r7) → (g_J2_get (x0 + 1) l2 (fun r18 m18 => Ext m7 m18 → ((hT m18 r18 = 15) ∧ ((Strg m18 (hF m18 r18 0)) ∧ (g_J5_equals (hF m18 r18 0) x1 (fun r28 m28 => Ext m18 m28 → (((r28 = 0) → ((i32 (l2 + 1)) ∧ (∀ y36 : Int, y36 = l2 + 1 → (K2 y36 m28)))) ∧ ((r28 ≠ 0) → (g_X7_drink_b34 x0 x1 Q l2 m28)))) m18)))) m7)))) h
theorem w_X7_drink_2 {G : GT} {X : ET} {h0 : Hp} {x0 x1 : Int} (HE : XE G X cX7_drink 3 RX7 3 64 h0) (hr : XR X (some .int)) (f0 : Lay_X7 h0 x0) {Q : Int → Hp → Prop} {K2 : Int → Hp → Prop} (hK2 : ∀ (l2 : Int) (h : Hp), K2 l2 h → Wx G X h0 (QI Q) h 2 [some (rV x0), some (rV x1), some (iV l2)] []) {l2 : Int} {h : Hp} (hw : g_X7_drink_L2 x0 x1 Q K2 l2 h) : Wx G X h0 (QI Q) h 2 [some (rV x0), some (rV x1), some (iV l2)] [] := by
  refine Wx.start (fun EB => ?_)
  unfold g_X7_drink_L2 at hw
  refine x_iload_n HE 2 dX7_drink_2 rfl rfl ?_
  refine x_aload_n HE 0 dX7_drink_3 rfl rfl ?_
  refine x_gR HE dX7_drink_4 fd_X7_3 q320 (Or.inl rfl) (Lay_X7.tag (f0.ext EB)) (Lay_X7_3 (f0.ext EB)).1 ?_
  refine x_callV HE dX7_drink_7 rfl (fun l => k_J2_size ((Lay_X7_3 (f0.ext EB)).2) l hw) (As := []) (rest := [iV l2]) rfl xc32 ((Lay_X7_3 (f0.ext EB)).2) (lw_V q734 q708 q709 q128 q710) hy_J2_size rfl rfl (Nat.le_of_ble_eq_true rfl) (Nat.le_of_ble_eq_true rfl) (Nat.le_of_ble_eq_true rfl) (kkI (fun r7 m7 E7 hw => ?_))
  have hw := hw E7
  refine x_ic_ge HE 42 dX7_drink_10 (by decide) (fun c10 => ?_) (fun c10 => ?_)
  · have hw := hw.1 c10
    refine Wx.mask [true, true, false] (lo2 := [some (rV x0), some (rV x1), none]) rfl ?_
    exact w_X7_drink_42 HE hr f0 hw
  · have hw := hw.2 c10
    refine x_aload_n HE 0 dX7_drink_13 rfl rfl ?_
    refine x_gR HE dX7_drink_14 fd_X7_3 q320 (Or.inl rfl) (Lay_X7.tag (f0.ext (EB.tr E7))) (Lay_X7_3 (f0.ext (EB.tr E7))).1 ?_
    refine x_iload_n HE 2 dX7_drink_17 rfl rfl ?_
    refine x_callV HE dX7_drink_18 rfl (fun l => k_J2_get ((Lay_X7_3 (f0.ext (EB.tr E7))).2) l hw) (As := [iV l2]) (rest := []) rfl xc32 ((Lay_X7_3 (f0.ext (EB.tr E7))).2) (lw_V q735 q736 q737 q128 q738) hy_J2_get rfl rfl (Nat.le_of_ble_eq_true rfl) (Nat.le_of_ble_eq_true rfl) (Nat.le_of_ble_eq_true rfl) (kkR (fun r18 m18 E18 hw => ?_))
    have hw := hw E18
    obtain ⟨v21, hw⟩ := hw
    refine x_castS HE dX7_drink_21 xc15 q753 v21 ?_
    refine x_gR HE dX7_drink_24 fd_X9_0 q769 (Or.inl rfl) v21 rfl ?_
    refine x_aload_n HE 1 dX7_drink_27 rfl rfl ?_
    obtain ⟨u28_0, hw⟩ := hw
    refine x_callV (t := hT m18 (hF m18 r18 0)) HE dX7_drink_28 rfl (fun l => k_J5_equals u28_0 l hw) (As := [rV x1]) (rest := []) rfl (Strg.xc u28_0) rfl (lw_V q748 q655 q656 q136 q657) hy_J5_equals rfl rfl (Nat.le_of_ble_eq_true rfl) (Nat.le_of_ble_eq_true rfl) (Nat.le_of_ble_eq_true rfl) (kkI (fun r28 m28 E28 hw => ?_))
    have hw := hw E28
    refine x_if_eq HE 36 dX7_drink_31 (by decide) (fun c31 => ?_) (fun c31 => ?_)
    · have hw := hw.1 c31
      obtain ⟨v36, hw⟩ := hw
      refine x_iincN HE (fun y36 => [some (rV x0), some (rV x1), some (iV y36)]) dX7_drink_36 rfl v36 (Nat.le_of_ble_eq_true rfl) (fun _ => rfl) (fun y36 ey36 => ?_)
      have hw := hw y36 ey36
      refine x_goto HE 2 dX7_drink_39 (by decide) ?_
      exact hK2 _ _ hw
    · have hw := hw.2 c31
      exact w_X7_drink_34 HE hr f0 hw
theorem wl_X7_drink_2 {G : GT} {X : ET} {h0 : Hp} {x0 x1 : Int} (HE : XE G X cX7_drink 3 RX7 3 64 h0) (hr : XR X (some .int)) (f0 : Lay_X7 h0 x0) {Q : Int → Hp → Prop} {l2 : Int} {h : Hp} (hw : Lp1 (g_X7_drink_L2 x0 x1 Q) l2 h) : Wx G X h0 (QI Q) h 2 [some (rV x0), some (rV x1), some (iV l2)] [] := by
  obtain ⟨n, hw⟩ := hw
  induction n generalizing l2 h with
  | zero => exact hw.elim
  | succ n ih => exact w_X7_drink_2 HE hr f0 (fun _ _ hk => ih hk) hw
def g_X7_drink (x0 x1 : Int) (Q : Int → Hp → Prop) (h : Hp) : Prop :=
  Lp1 (g_X7_drink_L2 x0 x1 Q) 0 h
theorem w_X7_drink_0 {G : GT} {X : ET} {h0 : Hp} {x0 x1 : Int} (HE : XE G X cX7_drink 3 RX7 3 64 h0) (hr : XR X (some .int)) (f0 : Lay_X7 h0 x0) {Q : Int → Hp → Prop} {h : Hp} (hw : g_X7_drink x0 x1 Q h) : Wx G X h0 (QI Q) h 0 [some (rV x0), some (rV x1), none] [] := by
  refine Wx.start (fun EB => ?_)
  unfold g_X7_drink at hw
  refine x_iconst HE dX7_drink_0 (by decide) ?_
  refine x_istore_n HE 2 (lo' := [some (rV x0), some (rV x1), some (iV 0)]) dX7_drink_1 rfl (Nat.le_of_ble_eq_true rfl) rfl ?_
  exact wl_X7_drink_2 HE hr f0 hw
theorem k_X7_drink {G : GT} {x0 x1 : Int} {Q : Int → Hp → Prop} {h : Hp} (f0 : Lay_X7 h x0) (l : Launch) (hw : g_X7_drink x0 x1 Q h) : XM G l yX7_drink cX7_drink 3 (some .int) 3 64 [rV x0, rV x1] (QI Q) h :=
  XM.of (by decide) (Nat.le_of_ble_eq_true rfl) (fun X HE hr hn => w_X7_drink_0 HE hr f0 hw)
def g_X7_person_b42 (x0 x1 : Int) (Q : Int → Hp → Prop) (h : Hp) : Prop :=
  Q (-1) h
theorem w_X7_person_42 {G : GT} {X : ET} {h0 : Hp} {x0 x1 : Int} (HE : XE G X cX7_person 3 RX7 3 64 h0) (hr : XR X (some .int)) (f0 : Lay_X7 h0 x0) {Q : Int → Hp → Prop} {h : Hp} (hw : g_X7_person_b42 x0 x1 Q  h) : Wx G X h0 (QI Q) h 42 [some (rV x0), some (rV x1), none] [] := by
  refine Wx.start (fun EB => ?_)
  unfold g_X7_person_b42 at hw
  refine x_iconst HE dX7_person_42 (by decide) ?_
  exact x_iret HE hr dX7_person_43 hw
def g_X7_person_b34 (x0 x1 : Int) (Q : Int → Hp → Prop) (l2 : Int) (h : Hp) : Prop :=
  Q l2 h
theorem w_X7_person_34 {G : GT} {X : ET} {h0 : Hp} {x0 x1 : Int} (HE : XE G X cX7_person 3 RX7 3 64 h0) (hr : XR X (some .int)) (f0 : Lay_X7 h0 x0) {Q : Int → Hp → Prop} {l2 : Int} {h : Hp} (hw : g_X7_person_b34 x0 x1 Q l2 h) : Wx G X h0 (QI Q) h 34 [some (rV x0), some (rV x1), some (iV l2)] [] := by
  refine Wx.start (fun EB => ?_)
  unfold g_X7_person_b34 at hw
  refine x_iload_n HE 2 dX7_person_34 rfl rfl ?_
  exact x_iret HE hr dX7_person_35 hw
def g_X7_person_L2 (x0 x1 : Int) (Q : Int → Hp → Prop) (K2 : Int → Hp → Prop) (l2 : Int) (h : Hp) : Prop :=
  g_J2_size (x0 + 3) (fun r7 m7 => Ext h m7 → (((r7 ≤ l2) → (g_X7_person_b42 x0 x1 Q m7)) ∧ ((l2 < r7) → (g_J2_get (x0 + 3) l2 (fun r18 m18 => Ext m7 m18 → ((Lay_X17 m18 r18) ∧ ((Strg m18 (hF m18 r18 0)) ∧ (g_J5_equals (hF m18 r18 0) x1 (fun r28 m28 => Ext m18 m28 → (((r28 = 0) → ((i32 (l2 + 1)) ∧ (∀ y36 : Int, y36 = l2 + 1 → (K2 y36 m28)))) ∧ ((r28 ≠ 0) → (g_X7_person_b34 x0 x1 Q l2 m28)))) m18)))) m7)))) h
theorem w_X7_person_2 {G : GT} {X : ET} {h0 : Hp} {x0 x1 : Int} (HE : XE G X cX7_person 3 RX7 3 64 h0) (hr : XR X (some .int)) (f0 : Lay_X7 h0 x0) {Q : Int → Hp → Prop} {K2 : Int → Hp → Prop} (hK2 : ∀ (l2 : Int) (h : Hp), K2 l2 h → Wx G X h0 (QI Q) h 2 [some (rV x0), some (rV x1), some (iV l2)] []) {l2 : Int} {h : Hp} (hw : g_X7_person_L2 x0 x1 Q K2 l2 h) : Wx G X h0 (QI Q) h 2 [some (rV x0), some (rV x1), some (iV l2)] [] := by
  refine Wx.start (fun EB => ?_)
  unfold g_X7_person_L2 at hw
  refine x_iload_n HE 2 dX7_person_2 rfl rfl ?_
  refine x_aload_n HE 0 dX7_person_3 rfl rfl ?_
  refine x_gR HE dX7_person_4 fd_X7_5 q327 (Or.inl rfl) (Lay_X7.tag (f0.ext EB)) (Lay_X7_5 (f0.ext EB)).1 ?_
  refine x_callV HE dX7_person_7 rfl (fun l => k_J2_size ((Lay_X7_5 (f0.ext EB)).2) l hw) (As := []) (rest := [iV l2]) rfl xc32 ((Lay_X7_5 (f0.ext EB)).2) (lw_V q734 q708 q709 q128 q710) hy_J2_size rfl rfl (Nat.le_of_ble_eq_true rfl) (Nat.le_of_ble_eq_true rfl) (Nat.le_of_ble_eq_true rfl) (kkI (fun r7 m7 E7 hw => ?_))
  have hw := hw E7
  refine x_ic_ge HE 42 dX7_person_10 (by decide) (fun c10 => ?_) (fun c10 => ?_)
  · have hw := hw.1 c10
    refine Wx.mask [true, true, false] (lo2 := [some (rV x0), some (rV x1), none]) rfl ?_
    exact w_X7_person_42 HE hr f0 hw
  · have hw := hw.2 c10
    refine x_aload_n HE 0 dX7_person_13 rfl rfl ?_
    refine x_gR HE dX7_person_14 fd_X7_5 q327 (Or.inl rfl) (Lay_X7.tag (f0.ext (EB.tr E7))) (Lay_X7_5 (f0.ext (EB.tr E7))).1 ?_
    refine x_iload_n HE 2 dX7_person_17 rfl rfl ?_
    refine x_callV HE dX7_person_18 rfl (fun l => k_J2_get ((Lay_X7_5 (f0.ext (EB.tr E7))).2) l hw) (As := [iV l2]) (rest := []) rfl xc32 ((Lay_X7_5 (f0.ext (EB.tr E7))).2) (lw_V q735 q736 q737 q128 q738) hy_J2_get rfl rfl (Nat.le_of_ble_eq_true rfl) (Nat.le_of_ble_eq_true rfl) (Nat.le_of_ble_eq_true rfl) (kkR (fun r18 m18 E18 hw => ?_))
    have hw := hw E18
    obtain ⟨v21, hw⟩ := hw
    refine x_castS HE dX7_person_21 xc14 q758 (Lay_X17.tag v21) ?_
    refine x_gR HE dX7_person_24 fd_X17_0 q977 (Or.inl rfl) (Lay_X17.tag v21) rfl ?_
    refine x_aload_n HE 1 dX7_person_27 rfl rfl ?_
    obtain ⟨u28_0, hw⟩ := hw
    refine x_callV (t := hT m18 (hF m18 r18 0)) HE dX7_person_28 rfl (fun l => k_J5_equals u28_0 l hw) (As := [rV x1]) (rest := []) rfl (Strg.xc u28_0) rfl (lw_V q748 q655 q656 q136 q657) hy_J5_equals rfl rfl (Nat.le_of_ble_eq_true rfl) (Nat.le_of_ble_eq_true rfl) (Nat.le_of_ble_eq_true rfl) (kkI (fun r28 m28 E28 hw => ?_))
    have hw := hw E28
    refine x_if_eq HE 36 dX7_person_31 (by decide) (fun c31 => ?_) (fun c31 => ?_)
    · have hw := hw.1 c31
      obtain ⟨v36, hw⟩ := hw
      refine x_iincN HE (fun y36 => [some (rV x0), some (rV x1), some (iV y36)]) dX7_person_36 rfl v36 (Nat.le_of_ble_eq_true rfl) (fun _ => rfl) (fun y36 ey36 => ?_)
      have hw := hw y36 ey36
      refine x_goto HE 2 dX7_person_39 (by decide) ?_
      exact hK2 _ _ hw
    · have hw := hw.2 c31
      exact w_X7_person_34 HE hr f0 hw
theorem wl_X7_person_2 {G : GT} {X : ET} {h0 : Hp} {x0 x1 : Int} (HE : XE G X cX7_person 3 RX7 3 64 h0) (hr : XR X (some .int)) (f0 : Lay_X7 h0 x0) {Q : Int → Hp → Prop} {l2 : Int} {h : Hp} (hw : Lp1 (g_X7_person_L2 x0 x1 Q) l2 h) : Wx G X h0 (QI Q) h 2 [some (rV x0), some (rV x1), some (iV l2)] [] := by
  obtain ⟨n, hw⟩ := hw
  induction n generalizing l2 h with
  | zero => exact hw.elim
  | succ n ih => exact w_X7_person_2 HE hr f0 (fun _ _ hk => ih hk) hw
def g_X7_person (x0 x1 : Int) (Q : Int → Hp → Prop) (h : Hp) : Prop :=
  Lp1 (g_X7_person_L2 x0 x1 Q) 0 h
theorem w_X7_person_0 {G : GT} {X : ET} {h0 : Hp} {x0 x1 : Int} (HE : XE G X cX7_person 3 RX7 3 64 h0) (hr : XR X (some .int)) (f0 : Lay_X7 h0 x0) {Q : Int → Hp → Prop} {h : Hp} (hw : g_X7_person x0 x1 Q h) : Wx G X h0 (QI Q) h 0 [some (rV x0), some (rV x1), none] [] := by
  refine Wx.start (fun EB => ?_)
  unfold g_X7_person at hw
  refine x_iconst HE dX7_person_0 (by decide) ?_
  refine x_istore_n HE 2 (lo' := [some (rV x0), some (rV x1), some (iV 0)]) dX7_person_1 rfl (Nat.le_of_ble_eq_true rfl) rfl ?_
  exact wl_X7_person_2 HE hr f0 hw
theorem k_X7_person {G : GT} {x0 x1 : Int} {Q : Int → Hp → Prop} {h : Hp} (f0 : Lay_X7 h x0) (l : Launch) (hw : g_X7_person x0 x1 Q h) : XM G l yX7_person cX7_person 3 (some .int) 3 64 [rV x0, rV x1] (QI Q) h :=
  XM.of (by decide) (Nat.le_of_ble_eq_true rfl) (fun X HE hr hn => w_X7_person_0 HE hr f0 hw)
def g_X7_isName_b65 (x0 x1 : Int) (Q : Int → Hp → Prop) (s0 : Int) (h : Hp) : Prop :=
  (s0 = 0 ∨ s0 = 1) ∧ Q s0 h
theorem w_X7_isName_65 {G : GT} {X : ET} {h0 : Hp} {x0 x1 : Int} (HE : XE G X cX7_isName 3 RX7 4 86 h0) (hr : XR X (some .boolean)) (f0 : Lay_X7 h0 x0) {Q : Int → Hp → Prop} {s0 : Int} {h : Hp} (hw : g_X7_isName_b65 x0 x1 Q s0 h) : Wx G X h0 (QI Q) h 65 [some (rV x0), some (rV x1), none] [iV s0] := by
  refine Wx.start (fun EB => ?_)
  unfold g_X7_isName_b65 at hw
  exact x_zret HE hr dX7_isName_65 hw.1 hw.2
def g_X7_isName_b60 (x0 x1 : Int) (Q : Int → Hp → Prop) (h : Hp) : Prop :=
  g_X7_isName_b65 x0 x1 Q 1 h
theorem w_X7_isName_60 {G : GT} {X : ET} {h0 : Hp} {x0 x1 : Int} (HE : XE G X cX7_isName 3 RX7 4 86 h0) (hr : XR X (some .boolean)) (f0 : Lay_X7 h0 x0) {Q : Int → Hp → Prop} {h : Hp} (hw : g_X7_isName_b60 x0 x1 Q  h) : Wx G X h0 (QI Q) h 60 [some (rV x0), some (rV x1), none] [] := by
  refine Wx.start (fun EB => ?_)
  unfold g_X7_isName_b60 at hw
  refine x_iconst HE dX7_isName_60 (by decide) ?_
  refine x_goto HE 65 dX7_isName_61 (by decide) ?_
  exact w_X7_isName_65 HE hr f0 hw
def g_X7_isName_b42 (x0 x1 : Int) (Q : Int → Hp → Prop) (h : Hp) : Prop :=
  g_X7_drink x0 x1 (fun r44 m44 => Ext h m44 → (((r44 ≠ (-1)) → (g_X7_isName_b60 x0 x1 Q m44)) ∧ ((r44 = (-1)) → (g_X7_person x0 x1 (fun r53 m53 => Ext m44 m53 → (((r53 = (-1)) → (g_X7_isName_b65 x0 x1 Q 0 m53)) ∧ ((r53 ≠ (-1)) → (g_X7_isName_b60 x0 x1 Q m53)))) m44)))) h
theorem w_X7_isName_42 {G : GT} {X : ET} {h0 : Hp} {x0 x1 : Int} (HE : XE G X cX7_isName 3 RX7 4 86 h0) (hr : XR X (some .boolean)) (f0 : Lay_X7 h0 x0) {Q : Int → Hp → Prop} {h : Hp} (hw : g_X7_isName_b42 x0 x1 Q  h) : Wx G X h0 (QI Q) h 42 [some (rV x0), some (rV x1), none] [] := by
  refine Wx.start (fun EB => ?_)
  unfold g_X7_isName_b42 at hw
  refine x_aload_n HE 0 dX7_isName_42 rfl rfl ?_
  refine x_aload_n HE 1 dX7_isName_43 rfl rfl ?_
  refine x_callV HE dX7_isName_44 rfl (fun l => k_X7_drink (f0.ext EB) l hw) (As := [rV x1]) (rest := []) rfl xc12 (Lay_X7.tag (f0.ext EB)) (lw_V q749 q750 q751 q132 q752) hy_X7_drink rfl rfl (Nat.le_of_ble_eq_true rfl) (Nat.le_of_ble_eq_true rfl) (Nat.le_of_ble_eq_true rfl) (kkI (fun r44 m44 E44 hw => ?_))
  have hw := hw E44
  refine x_iconst HE dX7_isName_47 (by decide) ?_
  refine x_ic_ne HE 60 dX7_isName_48 (by decide) (fun c48 => ?_) (fun c48 => ?_)
  · have hw := hw.1 c48
    exact w_X7_isName_60 HE hr f0 hw
  · have hw := hw.2 c48
    refine x_aload_n HE 0 dX7_isName_51 rfl rfl ?_
    refine x_aload_n HE 1 dX7_isName_52 rfl rfl ?_
    refine x_callV HE dX7_isName_53 rfl (fun l => k_X7_person (f0.ext (EB.tr E44)) l hw) (As := [rV x1]) (rest := []) rfl xc12 (Lay_X7.tag (f0.ext (EB.tr E44))) (lw_V q754 q755 q756 q132 q757) hy_X7_person rfl rfl (Nat.le_of_ble_eq_true rfl) (Nat.le_of_ble_eq_true rfl) (Nat.le_of_ble_eq_true rfl) (kkI (fun r53 m53 E53 hw => ?_))
    have hw := hw E53
    refine x_iconst HE dX7_isName_56 (by decide) ?_
    refine x_ic_eq HE 64 dX7_isName_57 (by decide) (fun c57 => ?_) (fun c57 => ?_)
    · have hw := hw.1 c57
      refine x_iconst HE dX7_isName_64 (by decide) ?_
      exact w_X7_isName_65 HE hr f0 hw
    · have hw := hw.2 c57
      exact w_X7_isName_60 HE hr f0 hw
def g_X7_isName_b34 (x0 x1 : Int) (Q : Int → Hp → Prop) (h : Hp) : Prop :=
  Q 1 h
theorem w_X7_isName_34 {G : GT} {X : ET} {h0 : Hp} {x0 x1 : Int} (HE : XE G X cX7_isName 3 RX7 4 86 h0) (hr : XR X (some .boolean)) (f0 : Lay_X7 h0 x0) {Q : Int → Hp → Prop} {h : Hp} (hw : g_X7_isName_b34 x0 x1 Q  h) : Wx G X h0 (QI Q) h 34 [some (rV x0), some (rV x1), none] [] := by
  refine Wx.start (fun EB => ?_)
  unfold g_X7_isName_b34 at hw
  refine x_iconst HE dX7_isName_34 (by decide) ?_
  exact x_zret HE hr dX7_isName_35 (by decide) hw
def g_X7_isName_L2 (x0 x1 : Int) (Q : Int → Hp → Prop) (K2 : Int → Hp → Prop) (l2 : Int) (h : Hp) : Prop :=
  g_J2_size (x0 + 2) (fun r7 m7 => Ext h m7 → (((r7 ≤ l2) → (g_X7_isName_b42 x0 x1 Q m7)) ∧ ((l2 < r7) → (g_J2_get (x0 + 2) l2 (fun r18 m18 => Ext m7 m18 → ((hT m18 r18 = 16) ∧ ((Strg m18 (hF m18 r18 0)) ∧ (g_J5_equals (hF m18 r18 0) x1 (fun r28 m28 => Ext m18 m28 → (((r28 = 0) → ((i32 (l2 + 1)) ∧ (∀ y36 : Int, y36 = l2 + 1 → (K2 y36 m28)))) ∧ ((r28 ≠ 0) → (g_X7_isName_b34 x0 x1 Q m28)))) m18)))) m7)))) h
theorem w_X7_isName_2 {G : GT} {X : ET} {h0 : Hp} {x0 x1 : Int} (HE : XE G X cX7_isName 3 RX7 4 86 h0) (hr : XR X (some .boolean)) (f0 : Lay_X7 h0 x0) {Q : Int → Hp → Prop} {K2 : Int → Hp → Prop} (hK2 : ∀ (l2 : Int) (h : Hp), K2 l2 h → Wx G X h0 (QI Q) h 2 [some (rV x0), some (rV x1), some (iV l2)] []) {l2 : Int} {h : Hp} (hw : g_X7_isName_L2 x0 x1 Q K2 l2 h) : Wx G X h0 (QI Q) h 2 [some (rV x0), some (rV x1), some (iV l2)] [] := by
  refine Wx.start (fun EB => ?_)
  unfold g_X7_isName_L2 at hw
  refine x_iload_n HE 2 dX7_isName_2 rfl rfl ?_
  refine x_aload_n HE 0 dX7_isName_3 rfl rfl ?_
  refine x_gR HE dX7_isName_4 fd_X7_4 q323 (Or.inl rfl) (Lay_X7.tag (f0.ext EB)) (Lay_X7_4 (f0.ext EB)).1 ?_
  refine x_callV HE dX7_isName_7 rfl (fun l => k_J2_size ((Lay_X7_4 (f0.ext EB)).2) l hw) (As := []) (rest := [iV l2]) rfl xc32 ((Lay_X7_4 (f0.ext EB)).2) (lw_V q734 q708 q709 q128 q710) hy_J2_size rfl rfl (Nat.le_of_ble_eq_true rfl) (Nat.le_of_ble_eq_true rfl) (Nat.le_of_ble_eq_true rfl) (kkI (fun r7 m7 E7 hw => ?_))
  have hw := hw E7
  refine x_ic_ge HE 42 dX7_isName_10 (by decide) (fun c10 => ?_) (fun c10 => ?_)
  · have hw := hw.1 c10
    refine Wx.mask [true, true, false] (lo2 := [some (rV x0), some (rV x1), none]) rfl ?_
    exact w_X7_isName_42 HE hr f0 hw
  · have hw := hw.2 c10
    refine x_aload_n HE 0 dX7_isName_13 rfl rfl ?_
    refine x_gR HE dX7_isName_14 fd_X7_4 q323 (Or.inl rfl) (Lay_X7.tag (f0.ext (EB.tr E7))) (Lay_X7_4 (f0.ext (EB.tr E7))).1 ?_
    refine x_iload_n HE 2 dX7_isName_17 rfl rfl ?_
    refine x_callV HE dX7_isName_18 rfl (fun l => k_J2_get ((Lay_X7_4 (f0.ext (EB.tr E7))).2) l hw) (As := [iV l2]) (rest := []) rfl xc32 ((Lay_X7_4 (f0.ext (EB.tr E7))).2) (lw_V q735 q736 q737 q128 q738) hy_J2_get rfl rfl (Nat.le_of_ble_eq_true rfl) (Nat.le_of_ble_eq_true rfl) (Nat.le_of_ble_eq_true rfl) (kkR (fun r18 m18 E18 hw => ?_))
    have hw := hw E18
    obtain ⟨v21, hw⟩ := hw
    refine x_castS HE dX7_isName_21 xc16 q747 v21 ?_
    refine x_gR HE dX7_isName_24 fd_X10_0 q903 (Or.inl rfl) v21 rfl ?_
    refine x_aload_n HE 1 dX7_isName_27 rfl rfl ?_
    obtain ⟨u28_0, hw⟩ := hw
    refine x_callV (t := hT m18 (hF m18 r18 0)) HE dX7_isName_28 rfl (fun l => k_J5_equals u28_0 l hw) (As := [rV x1]) (rest := []) rfl (Strg.xc u28_0) rfl (lw_V q748 q655 q656 q136 q657) hy_J5_equals rfl rfl (Nat.le_of_ble_eq_true rfl) (Nat.le_of_ble_eq_true rfl) (Nat.le_of_ble_eq_true rfl) (kkI (fun r28 m28 E28 hw => ?_))
    have hw := hw E28
    refine x_if_eq HE 36 dX7_isName_31 (by decide) (fun c31 => ?_) (fun c31 => ?_)
    · have hw := hw.1 c31
      obtain ⟨v36, hw⟩ := hw
      refine x_iincN HE (fun y36 => [some (rV x0), some (rV x1), some (iV y36)]) dX7_isName_36 rfl v36 (Nat.le_of_ble_eq_true rfl) (fun _ => rfl) (fun y36 ey36 => ?_)
      have hw := hw y36 ey36
      refine x_goto HE 2 dX7_isName_39 (by decide) ?_
      exact hK2 _ _ hw
    · have hw := hw.2 c31
      refine Wx.mask [true, true, false] (lo2 := [some (rV x0), some (rV x1), none]) rfl ?_
      exact w_X7_isName_34 HE hr f0 hw
theorem wl_X7_isName_2 {G : GT} {X : ET} {h0 : Hp} {x0 x1 : Int} (HE : XE G X cX7_isName 3 RX7 4 86 h0) (hr : XR X (some .boolean)) (f0 : Lay_X7 h0 x0) {Q : Int → Hp → Prop} {l2 : Int} {h : Hp} (hw : Lp1 (g_X7_isName_L2 x0 x1 Q) l2 h) : Wx G X h0 (QI Q) h 2 [some (rV x0), some (rV x1), some (iV l2)] [] := by
  obtain ⟨n, hw⟩ := hw
  induction n generalizing l2 h with
  | zero => exact hw.elim
  | succ n ih => exact w_X7_isName_2 HE hr f0 (fun _ _ hk => ih hk) hw
def g_X7_isName (x0 x1 : Int) (Q : Int → Hp → Prop) (h : Hp) : Prop :=
  Lp1 (g_X7_isName_L2 x0 x1 Q) 0 h
theorem w_X7_isName_0 {G : GT} {X : ET} {h0 : Hp} {x0 x1 : Int} (HE : XE G X cX7_isName 3 RX7 4 86 h0) (hr : XR X (some .boolean)) (f0 : Lay_X7 h0 x0) {Q : Int → Hp → Prop} {h : Hp} (hw : g_X7_isName x0 x1 Q h) : Wx G X h0 (QI Q) h 0 [some (rV x0), some (rV x1), none] [] := by
  refine Wx.start (fun EB => ?_)
  unfold g_X7_isName at hw
  refine x_iconst HE dX7_isName_0 (by decide) ?_
  refine x_istore_n HE 2 (lo' := [some (rV x0), some (rV x1), some (iV 0)]) dX7_isName_1 rfl (Nat.le_of_ble_eq_true rfl) rfl ?_
  exact wl_X7_isName_2 HE hr f0 hw
theorem k_X7_isName {G : GT} {x0 x1 : Int} {Q : Int → Hp → Prop} {h : Hp} (f0 : Lay_X7 h x0) (l : Launch) (hw : g_X7_isName x0 x1 Q h) : XM G l yX7_isName cX7_isName 3 (some .boolean) 4 86 [rV x0, rV x1] (QI Q) h :=
  XM.of (by decide) (Nat.le_of_ble_eq_true rfl) (fun X HE hr hn => w_X7_isName_0 HE hr f0 hw)
def g_X9_init (x0 x1 x2 x3 x4 : Int) (Q : Hp → Prop) (h : Hp) : Prop :=
  (hF h x0 0 = 0) ∧ (∀ m6 : Hp, m6 = setF h x0 0 x1 → (∀ m11 : Hp, m11 = setF m6 x0 1 x2 → (∀ m16 : Hp, m16 = setF m11 x0 2 x3 → (∀ m22 : Hp, m22 = setF m16 x0 3 x4 → (Q m22)))))
theorem w_X9_init_0 {G : GT} {X : ET} {h0 : Hp} {x0 x1 x2 x3 x4 : Int} (HE : XE G X cX9_init 5 RX9 1 20 h0) (hr : XR X none) (hn : XN X "<init>") (f0 : hT h0 x0 = 15) {Q : Hp → Prop} {h : Hp} (hw : g_X9_init x0 x1 x2 x3 x4 Q h) : Wx G X h0 (QV Q) h 0 [some (rV x0), some (rV x1), some (iV x2), some (iV x3), some (iV x4)] [] := by
  refine Wx.start (fun EB => ?_)
  unfold g_X9_init at hw
  refine x_aload_n HE 0 dX9_init_0 rfl rfl ?_
  refine Wx.wf (fun wf1 => ?_)
  refine x_objInit HE dX9_init_1 rfl q767 q170 q171 (tag_pos wf1 (EB.tag f0 (by decide)) (by decide)) (Nat.le_of_ble_eq_true rfl) (Nat.le_of_ble_eq_true rfl) (Nat.le_of_ble_eq_true rfl) ?_
  refine x_aload_n HE 0 dX9_init_4 rfl rfl ?_
  refine x_aload_n HE 1 dX9_init_5 rfl rfl ?_
  obtain ⟨z6, hw⟩ := hw
  refine x_pR HE dX9_init_6 fd_X9_0 q768 (Or.inl rfl) (Or.inr ⟨rfl, hn, rfl⟩) (nf_obj _ _) (EB.tag f0 (by decide)) (nro (by decide)) (Or.inr z6) (fun m6 em6 E6 => ?_)
  have hw := hw m6 em6
  refine x_aload_n HE 0 dX9_init_9 rfl rfl ?_
  refine x_iload_n HE 2 dX9_init_10 rfl rfl ?_
  refine x_pI HE dX9_init_11 fd_X9_1 q770 (Or.inl rfl) (Or.inr ⟨rfl, hn, rfl⟩) (nf_int _) ((EB.tr E6).tag f0 (by decide)) (nro (by decide)) (Or.inl nf_X9_1) (fun m11 em11 E11 => ?_)
  have hw := hw m11 em11
  refine x_aload_n HE 0 dX9_init_14 rfl rfl ?_
  refine x_iload_n HE 3 dX9_init_15 rfl rfl ?_
  refine x_pI HE dX9_init_16 fd_X9_2 q771 (Or.inl rfl) (Or.inr ⟨rfl, hn, rfl⟩) (nf_int _) ((EB.tr (E6.tr E11)).tag f0 (by decide)) (nro (by decide)) (Or.inl nf_X9_2) (fun m16 em16 E16 => ?_)
  have hw := hw m16 em16
  refine x_aload_n HE 0 dX9_init_19 rfl rfl ?_
  refine x_iload HE dX9_init_20 rfl ?_
  refine x_pI HE dX9_init_22 fd_X9_3 q772 (Or.inl rfl) (Or.inr ⟨rfl, hn, rfl⟩) (nf_int _) ((EB.tr (E6.tr (E11.tr E16))).tag f0 (by decide)) (nro (by decide)) (Or.inl nf_X9_3) (fun m22 em22 E22 => ?_)
  have hw := hw m22 em22
  exact x_vret HE hr dX9_init_25 hw
theorem k_X9_init {G : GT} {x0 x1 x2 x3 x4 : Int} {Q : Hp → Prop} {h : Hp} (f0 : hT h x0 = 15) (l : Launch) (hw : g_X9_init x0 x1 x2 x3 x4 Q h) : XM G l yX9_init cX9_init 5 none 1 20 [rV x0, rV x1, iV x2, iV x3, iV x4] (QV Q) h :=
  XM.of (by decide) (Nat.le_of_ble_eq_true rfl) (fun X HE hr hn => w_X9_init_0 HE hr hn f0 hw)
def g_X11_init_at_X13 (x0 : Int) (Q : Hp → Prop) (h : Hp) : Prop :=
  Q h
theorem w_X11_init_at_X13_0 {G : GT} {X : ET} {h0 : Hp} {x0 : Int} (HE : XE G X cX11_init 1 RX11 1 20 h0) (hr : XR X none) (hn : XN X "<init>") (f0 : hT h0 x0 = 28) {Q : Hp → Prop} {h : Hp} (hw : g_X11_init_at_X13 x0 Q h) : Wx G X h0 (QV Q) h 0 [some (rV x0)] [] := by
  refine Wx.start (fun EB => ?_)
  unfold g_X11_init_at_X13 at hw
  refine x_aload_n HE 0 dX11_init_0 rfl rfl ?_
  refine Wx.wf (fun wf1 => ?_)
  refine x_objInit HE dX11_init_1 rfl q871 q170 q171 (tag_pos wf1 (EB.tag f0 (by decide)) (by decide)) (Nat.le_of_ble_eq_true rfl) (Nat.le_of_ble_eq_true rfl) (Nat.le_of_ble_eq_true rfl) ?_
  exact x_vret HE hr dX11_init_4 hw
theorem k_X11_init_at_X13 {G : GT} {x0 : Int} {Q : Hp → Prop} {h : Hp} (f0 : hT h x0 = 28) (l : Launch) (hw : g_X11_init_at_X13 x0 Q h) : XM G l yX11_init cX11_init 1 none 1 20 [rV x0] (QV Q) h :=
  XM.of (by decide) (Nat.le_of_ble_eq_true rfl) (fun X HE hr hn => w_X11_init_at_X13_0 HE hr hn f0 hw)
def g_X12_init_at_X13 (x0 : Int) (Q : Hp → Prop) (h : Hp) : Prop :=
  g_X11_init_at_X13 x0 (fun m1 => Ext h m1 → (Q m1)) h
theorem w_X12_init_at_X13_0 {G : GT} {X : ET} {h0 : Hp} {x0 : Int} (HE : XE G X cX12_init 1 RX12 2 40 h0) (hr : XR X none) (hn : XN X "<init>") (f0 : hT h0 x0 = 28) {Q : Hp → Prop} {h : Hp} (hw : g_X12_init_at_X13 x0 Q h) : Wx G X h0 (QV Q) h 0 [some (rV x0)] [] := by
  refine Wx.start (fun EB => ?_)
  unfold g_X12_init_at_X13 at hw
  refine x_aload_n HE 0 dX12_init_0 rfl rfl ?_
  refine Wx.wf (fun wf1 => ?_)
  refine x_callIN HE dX12_init_1 rfl (fun l => k_X11_init_at_X13 (EB.tag f0 (by decide)) l hw) (As := []) (rest := []) rfl (tag_pos wf1 (EB.tag f0 (by decide)) (by decide)) (List.mem_of_getElem? (i := 11) rfl) q147 q869 q870 rfl hy_X11_init.2 rfl rfl (Nat.le_of_ble_eq_true rfl) (Nat.le_of_ble_eq_true rfl) (Nat.le_of_ble_eq_true rfl) (kkV (fun m1 E1 hw => ?_))
  have hw := hw E1
  exact x_vret HE hr dX12_init_4 hw
theorem k_X12_init_at_X13 {G : GT} {x0 : Int} {Q : Hp → Prop} {h : Hp} (f0 : hT h x0 = 28) (l : Launch) (hw : g_X12_init_at_X13 x0 Q h) : XM G l yX12_init cX12_init 1 none 2 40 [rV x0] (QV Q) h :=
  XM.of (by decide) (Nat.le_of_ble_eq_true rfl) (fun X HE hr hn => w_X12_init_at_X13_0 HE hr hn f0 hw)
def g_X13_init (x0 : Int) (Q : Hp → Prop) (h : Hp) : Prop :=
  g_X12_init_at_X13 x0 (fun m1 => Ext h m1 → (Q m1)) h
theorem w_X13_init_0 {G : GT} {X : ET} {h0 : Hp} {x0 : Int} (HE : XE G X cX13_init 1 RX13 3 60 h0) (hr : XR X none) (hn : XN X "<init>") (f0 : hT h0 x0 = 28) {Q : Hp → Prop} {h : Hp} (hw : g_X13_init x0 Q h) : Wx G X h0 (QV Q) h 0 [some (rV x0)] [] := by
  refine Wx.start (fun EB => ?_)
  unfold g_X13_init at hw
  refine x_aload_n HE 0 dX13_init_0 rfl rfl ?_
  refine Wx.wf (fun wf1 => ?_)
  refine x_callIN HE dX13_init_1 rfl (fun l => k_X12_init_at_X13 (EB.tag f0 (by decide)) l hw) (As := []) (rest := []) rfl (tag_pos wf1 (EB.tag f0 (by decide)) (by decide)) (List.mem_of_getElem? (i := 10) rfl) q148 q866 q867 rfl hy_X12_init.2 rfl rfl (Nat.le_of_ble_eq_true rfl) (Nat.le_of_ble_eq_true rfl) (Nat.le_of_ble_eq_true rfl) (kkV (fun m1 E1 hw => ?_))
  have hw := hw E1
  exact x_vret HE hr dX13_init_4 hw
theorem k_X13_init {G : GT} {x0 : Int} {Q : Hp → Prop} {h : Hp} (f0 : hT h x0 = 28) (l : Launch) (hw : g_X13_init x0 Q h) : XM G l yX13_init cX13_init 1 none 3 60 [rV x0] (QV Q) h :=
  XM.of (by decide) (Nat.le_of_ble_eq_true rfl) (fun X HE hr hn => w_X13_init_0 HE hr hn f0 hw)
def g_X11_init_at_X12 (x0 : Int) (Q : Hp → Prop) (h : Hp) : Prop :=
  Q h
theorem w_X11_init_at_X12_0 {G : GT} {X : ET} {h0 : Hp} {x0 : Int} (HE : XE G X cX11_init 1 RX11 1 20 h0) (hr : XR X none) (hn : XN X "<init>") (f0 : hT h0 x0 = 27) {Q : Hp → Prop} {h : Hp} (hw : g_X11_init_at_X12 x0 Q h) : Wx G X h0 (QV Q) h 0 [some (rV x0)] [] := by
  refine Wx.start (fun EB => ?_)
  unfold g_X11_init_at_X12 at hw
  refine x_aload_n HE 0 dX11_init_0 rfl rfl ?_
  refine Wx.wf (fun wf1 => ?_)
  refine x_objInit HE dX11_init_1 rfl q871 q170 q171 (tag_pos wf1 (EB.tag f0 (by decide)) (by decide)) (Nat.le_of_ble_eq_true rfl) (Nat.le_of_ble_eq_true rfl) (Nat.le_of_ble_eq_true rfl) ?_
  exact x_vret HE hr dX11_init_4 hw
theorem k_X11_init_at_X12 {G : GT} {x0 : Int} {Q : Hp → Prop} {h : Hp} (f0 : hT h x0 = 27) (l : Launch) (hw : g_X11_init_at_X12 x0 Q h) : XM G l yX11_init cX11_init 1 none 1 20 [rV x0] (QV Q) h :=
  XM.of (by decide) (Nat.le_of_ble_eq_true rfl) (fun X HE hr hn => w_X11_init_at_X12_0 HE hr hn f0 hw)
def g_X12_init (x0 : Int) (Q : Hp → Prop) (h : Hp) : Prop :=
  g_X11_init_at_X12 x0 (fun m1 => Ext h m1 → (Q m1)) h
theorem w_X12_init_0 {G : GT} {X : ET} {h0 : Hp} {x0 : Int} (HE : XE G X cX12_init 1 RX12 2 40 h0) (hr : XR X none) (hn : XN X "<init>") (f0 : hT h0 x0 = 27) {Q : Hp → Prop} {h : Hp} (hw : g_X12_init x0 Q h) : Wx G X h0 (QV Q) h 0 [some (rV x0)] [] := by
  refine Wx.start (fun EB => ?_)
  unfold g_X12_init at hw
  refine x_aload_n HE 0 dX12_init_0 rfl rfl ?_
  refine Wx.wf (fun wf1 => ?_)
  refine x_callIN HE dX12_init_1 rfl (fun l => k_X11_init_at_X12 (EB.tag f0 (by decide)) l hw) (As := []) (rest := []) rfl (tag_pos wf1 (EB.tag f0 (by decide)) (by decide)) (List.mem_of_getElem? (i := 11) rfl) q147 q869 q870 rfl hy_X11_init.2 rfl rfl (Nat.le_of_ble_eq_true rfl) (Nat.le_of_ble_eq_true rfl) (Nat.le_of_ble_eq_true rfl) (kkV (fun m1 E1 hw => ?_))
  have hw := hw E1
  exact x_vret HE hr dX12_init_4 hw
theorem k_X12_init {G : GT} {x0 : Int} {Q : Hp → Prop} {h : Hp} (f0 : hT h x0 = 27) (l : Launch) (hw : g_X12_init x0 Q h) : XM G l yX12_init cX12_init 1 none 2 40 [rV x0] (QV Q) h :=
  XM.of (by decide) (Nat.le_of_ble_eq_true rfl) (fun X HE hr hn => w_X12_init_0 HE hr hn f0 hw)
def g_X11_init_at_X14 (x0 : Int) (Q : Hp → Prop) (h : Hp) : Prop :=
  Q h
theorem w_X11_init_at_X14_0 {G : GT} {X : ET} {h0 : Hp} {x0 : Int} (HE : XE G X cX11_init 1 RX11 1 20 h0) (hr : XR X none) (hn : XN X "<init>") (f0 : hT h0 x0 = 29) {Q : Hp → Prop} {h : Hp} (hw : g_X11_init_at_X14 x0 Q h) : Wx G X h0 (QV Q) h 0 [some (rV x0)] [] := by
  refine Wx.start (fun EB => ?_)
  unfold g_X11_init_at_X14 at hw
  refine x_aload_n HE 0 dX11_init_0 rfl rfl ?_
  refine Wx.wf (fun wf1 => ?_)
  refine x_objInit HE dX11_init_1 rfl q871 q170 q171 (tag_pos wf1 (EB.tag f0 (by decide)) (by decide)) (Nat.le_of_ble_eq_true rfl) (Nat.le_of_ble_eq_true rfl) (Nat.le_of_ble_eq_true rfl) ?_
  exact x_vret HE hr dX11_init_4 hw
theorem k_X11_init_at_X14 {G : GT} {x0 : Int} {Q : Hp → Prop} {h : Hp} (f0 : hT h x0 = 29) (l : Launch) (hw : g_X11_init_at_X14 x0 Q h) : XM G l yX11_init cX11_init 1 none 1 20 [rV x0] (QV Q) h :=
  XM.of (by decide) (Nat.le_of_ble_eq_true rfl) (fun X HE hr hn => w_X11_init_at_X14_0 HE hr hn f0 hw)
def g_X14_init (x0 : Int) (Q : Hp → Prop) (h : Hp) : Prop :=
  g_X11_init_at_X14 x0 (fun m1 => Ext h m1 → (Q m1)) h
theorem w_X14_init_0 {G : GT} {X : ET} {h0 : Hp} {x0 : Int} (HE : XE G X cX14_init 1 RX14 2 40 h0) (hr : XR X none) (hn : XN X "<init>") (f0 : hT h0 x0 = 29) {Q : Hp → Prop} {h : Hp} (hw : g_X14_init x0 Q h) : Wx G X h0 (QV Q) h 0 [some (rV x0)] [] := by
  refine Wx.start (fun EB => ?_)
  unfold g_X14_init at hw
  refine x_aload_n HE 0 dX14_init_0 rfl rfl ?_
  refine Wx.wf (fun wf1 => ?_)
  refine x_callIN HE dX14_init_1 rfl (fun l => k_X11_init_at_X14 (EB.tag f0 (by decide)) l hw) (As := []) (rest := []) rfl (tag_pos wf1 (EB.tag f0 (by decide)) (by decide)) (List.mem_of_getElem? (i := 14) rfl) q147 q869 q870 rfl hy_X11_init.2 rfl rfl (Nat.le_of_ble_eq_true rfl) (Nat.le_of_ble_eq_true rfl) (Nat.le_of_ble_eq_true rfl) (kkV (fun m1 E1 hw => ?_))
  have hw := hw E1
  exact x_vret HE hr dX14_init_4 hw
theorem k_X14_init {G : GT} {x0 : Int} {Q : Hp → Prop} {h : Hp} (f0 : hT h x0 = 29) (l : Launch) (hw : g_X14_init x0 Q h) : XM G l yX14_init cX14_init 1 none 2 40 [rV x0] (QV Q) h :=
  XM.of (by decide) (Nat.le_of_ble_eq_true rfl) (fun X HE hr hn => w_X14_init_0 HE hr hn f0 hw)
def g_X11_init_at_X15 (x0 : Int) (Q : Hp → Prop) (h : Hp) : Prop :=
  Q h
theorem w_X11_init_at_X15_0 {G : GT} {X : ET} {h0 : Hp} {x0 : Int} (HE : XE G X cX11_init 1 RX11 1 20 h0) (hr : XR X none) (hn : XN X "<init>") (f0 : hT h0 x0 = 30) {Q : Hp → Prop} {h : Hp} (hw : g_X11_init_at_X15 x0 Q h) : Wx G X h0 (QV Q) h 0 [some (rV x0)] [] := by
  refine Wx.start (fun EB => ?_)
  unfold g_X11_init_at_X15 at hw
  refine x_aload_n HE 0 dX11_init_0 rfl rfl ?_
  refine Wx.wf (fun wf1 => ?_)
  refine x_objInit HE dX11_init_1 rfl q871 q170 q171 (tag_pos wf1 (EB.tag f0 (by decide)) (by decide)) (Nat.le_of_ble_eq_true rfl) (Nat.le_of_ble_eq_true rfl) (Nat.le_of_ble_eq_true rfl) ?_
  exact x_vret HE hr dX11_init_4 hw
theorem k_X11_init_at_X15 {G : GT} {x0 : Int} {Q : Hp → Prop} {h : Hp} (f0 : hT h x0 = 30) (l : Launch) (hw : g_X11_init_at_X15 x0 Q h) : XM G l yX11_init cX11_init 1 none 1 20 [rV x0] (QV Q) h :=
  XM.of (by decide) (Nat.le_of_ble_eq_true rfl) (fun X HE hr hn => w_X11_init_at_X15_0 HE hr hn f0 hw)
def g_X15_init (x0 : Int) (Q : Hp → Prop) (h : Hp) : Prop :=
  g_X11_init_at_X15 x0 (fun m1 => Ext h m1 → (Q m1)) h
theorem w_X15_init_0 {G : GT} {X : ET} {h0 : Hp} {x0 : Int} (HE : XE G X cX15_init 1 RX15 2 40 h0) (hr : XR X none) (hn : XN X "<init>") (f0 : hT h0 x0 = 30) {Q : Hp → Prop} {h : Hp} (hw : g_X15_init x0 Q h) : Wx G X h0 (QV Q) h 0 [some (rV x0)] [] := by
  refine Wx.start (fun EB => ?_)
  unfold g_X15_init at hw
  refine x_aload_n HE 0 dX15_init_0 rfl rfl ?_
  refine Wx.wf (fun wf1 => ?_)
  refine x_callIN HE dX15_init_1 rfl (fun l => k_X11_init_at_X15 (EB.tag f0 (by decide)) l hw) (As := []) (rest := []) rfl (tag_pos wf1 (EB.tag f0 (by decide)) (by decide)) (List.mem_of_getElem? (i := 16) rfl) q147 q869 q870 rfl hy_X11_init.2 rfl rfl (Nat.le_of_ble_eq_true rfl) (Nat.le_of_ble_eq_true rfl) (Nat.le_of_ble_eq_true rfl) (kkV (fun m1 E1 hw => ?_))
  have hw := hw E1
  exact x_vret HE hr dX15_init_4 hw
theorem k_X15_init {G : GT} {x0 : Int} {Q : Hp → Prop} {h : Hp} (f0 : hT h x0 = 30) (l : Launch) (hw : g_X15_init x0 Q h) : XM G l yX15_init cX15_init 1 none 2 40 [rV x0] (QV Q) h :=
  XM.of (by decide) (Nat.le_of_ble_eq_true rfl) (fun X HE hr hn => w_X15_init_0 HE hr hn f0 hw)
def g_X11_init_at_X16 (x0 : Int) (Q : Hp → Prop) (h : Hp) : Prop :=
  Q h
theorem w_X11_init_at_X16_0 {G : GT} {X : ET} {h0 : Hp} {x0 : Int} (HE : XE G X cX11_init 1 RX11 1 20 h0) (hr : XR X none) (hn : XN X "<init>") (f0 : hT h0 x0 = 31) {Q : Hp → Prop} {h : Hp} (hw : g_X11_init_at_X16 x0 Q h) : Wx G X h0 (QV Q) h 0 [some (rV x0)] [] := by
  refine Wx.start (fun EB => ?_)
  unfold g_X11_init_at_X16 at hw
  refine x_aload_n HE 0 dX11_init_0 rfl rfl ?_
  refine Wx.wf (fun wf1 => ?_)
  refine x_objInit HE dX11_init_1 rfl q871 q170 q171 (tag_pos wf1 (EB.tag f0 (by decide)) (by decide)) (Nat.le_of_ble_eq_true rfl) (Nat.le_of_ble_eq_true rfl) (Nat.le_of_ble_eq_true rfl) ?_
  exact x_vret HE hr dX11_init_4 hw
theorem k_X11_init_at_X16 {G : GT} {x0 : Int} {Q : Hp → Prop} {h : Hp} (f0 : hT h x0 = 31) (l : Launch) (hw : g_X11_init_at_X16 x0 Q h) : XM G l yX11_init cX11_init 1 none 1 20 [rV x0] (QV Q) h :=
  XM.of (by decide) (Nat.le_of_ble_eq_true rfl) (fun X HE hr hn => w_X11_init_at_X16_0 HE hr hn f0 hw)
def g_X16_init (x0 : Int) (Q : Hp → Prop) (h : Hp) : Prop :=
  g_X11_init_at_X16 x0 (fun m1 => Ext h m1 → (Q m1)) h
theorem w_X16_init_0 {G : GT} {X : ET} {h0 : Hp} {x0 : Int} (HE : XE G X cX16_init 1 RX16 2 40 h0) (hr : XR X none) (hn : XN X "<init>") (f0 : hT h0 x0 = 31) {Q : Hp → Prop} {h : Hp} (hw : g_X16_init x0 Q h) : Wx G X h0 (QV Q) h 0 [some (rV x0)] [] := by
  refine Wx.start (fun EB => ?_)
  unfold g_X16_init at hw
  refine x_aload_n HE 0 dX16_init_0 rfl rfl ?_
  refine Wx.wf (fun wf1 => ?_)
  refine x_callIN HE dX16_init_1 rfl (fun l => k_X11_init_at_X16 (EB.tag f0 (by decide)) l hw) (As := []) (rest := []) rfl (tag_pos wf1 (EB.tag f0 (by decide)) (by decide)) (List.mem_of_getElem? (i := 18) rfl) q147 q869 q870 rfl hy_X11_init.2 rfl rfl (Nat.le_of_ble_eq_true rfl) (Nat.le_of_ble_eq_true rfl) (Nat.le_of_ble_eq_true rfl) (kkV (fun m1 E1 hw => ?_))
  have hw := hw E1
  exact x_vret HE hr dX16_init_4 hw
theorem k_X16_init {G : GT} {x0 : Int} {Q : Hp → Prop} {h : Hp} (f0 : hT h x0 = 31) (l : Launch) (hw : g_X16_init x0 Q h) : XM G l yX16_init cX16_init 1 none 2 40 [rV x0] (QV Q) h :=
  XM.of (by decide) (Nat.le_of_ble_eq_true rfl) (fun X HE hr hn => w_X16_init_0 HE hr hn f0 hw)
def g_X10_init (x0 x1 x2 : Int) (Q : Hp → Prop) (h : Hp) : Prop :=
  (hF h x0 0 = 0) ∧ (∀ m6 : Hp, m6 = setF h x0 0 x1 → ((hF m6 x0 1 = 0) ∧ (∀ m11 : Hp, m11 = setF m6 x0 1 x2 → (Q m11))))
theorem w_X10_init_0 {G : GT} {X : ET} {h0 : Hp} {x0 x1 x2 : Int} (HE : XE G X cX10_init 3 RX10 1 20 h0) (hr : XR X none) (hn : XN X "<init>") (f0 : hT h0 x0 = 16) {Q : Hp → Prop} {h : Hp} (hw : g_X10_init x0 x1 x2 Q h) : Wx G X h0 (QV Q) h 0 [some (rV x0), some (rV x1), some (rV x2)] [] := by
  refine Wx.start (fun EB => ?_)
  unfold g_X10_init at hw
  refine x_aload_n HE 0 dX10_init_0 rfl rfl ?_
  refine Wx.wf (fun wf1 => ?_)
  refine x_objInit HE dX10_init_1 rfl q901 q170 q171 (tag_pos wf1 (EB.tag f0 (by decide)) (by decide)) (Nat.le_of_ble_eq_true rfl) (Nat.le_of_ble_eq_true rfl) (Nat.le_of_ble_eq_true rfl) ?_
  refine x_aload_n HE 0 dX10_init_4 rfl rfl ?_
  refine x_aload_n HE 1 dX10_init_5 rfl rfl ?_
  obtain ⟨z6, hw⟩ := hw
  refine x_pR HE dX10_init_6 fd_X10_0 q902 (Or.inl rfl) (Or.inr ⟨rfl, hn, rfl⟩) (nf_obj _ _) (EB.tag f0 (by decide)) (nro (by decide)) (Or.inr z6) (fun m6 em6 E6 => ?_)
  have hw := hw m6 em6
  refine x_aload_n HE 0 dX10_init_9 rfl rfl ?_
  refine x_aload_n HE 2 dX10_init_10 rfl rfl ?_
  obtain ⟨z11, hw⟩ := hw
  refine x_pR HE dX10_init_11 fd_X10_1 q904 (Or.inl rfl) (Or.inr ⟨rfl, hn, rfl⟩) (nf_obj _ _) ((EB.tr E6).tag f0 (by decide)) (nro (by decide)) (Or.inr z11) (fun m11 em11 E11 => ?_)
  have hw := hw m11 em11
  exact x_vret HE hr dX10_init_14 hw
theorem k_X10_init {G : GT} {x0 x1 x2 : Int} {Q : Hp → Prop} {h : Hp} (f0 : hT h x0 = 16) (l : Launch) (hw : g_X10_init x0 x1 x2 Q h) : XM G l yX10_init cX10_init 3 none 1 20 [rV x0, rV x1, rV x2] (QV Q) h :=
  XM.of (by decide) (Nat.le_of_ble_eq_true rfl) (fun X HE hr hn => w_X10_init_0 HE hr hn f0 hw)
def g_X2_init_at_X18 (x0 x1 : Int) (Q : Hp → Prop) (h : Hp) : Prop :=
  ∀ m6 : Hp, m6 = setF h x0 0 x1 → (Q m6)
theorem w_X2_init_at_X18_0 {G : GT} {X : ET} {h0 : Hp} {x0 x1 : Int} (HE : XE G X cX2_init 2 RX2 1 20 h0) (hr : XR X none) (hn : XN X "<init>") (f0 : hT h0 x0 = 25) {Q : Hp → Prop} {h : Hp} (hw : g_X2_init_at_X18 x0 x1 Q h) : Wx G X h0 (QV Q) h 0 [some (rV x0), some (iV x1)] [] := by
  refine Wx.start (fun EB => ?_)
  unfold g_X2_init_at_X18 at hw
  refine x_aload_n HE 0 dX2_init_0 rfl rfl ?_
  refine Wx.wf (fun wf1 => ?_)
  refine x_objInit HE dX2_init_1 rfl q177 q170 q171 (tag_pos wf1 (EB.tag f0 (by decide)) (by decide)) (Nat.le_of_ble_eq_true rfl) (Nat.le_of_ble_eq_true rfl) (Nat.le_of_ble_eq_true rfl) ?_
  refine x_aload_n HE 0 dX2_init_4 rfl rfl ?_
  refine x_iload_n HE 1 dX2_init_5 rfl rfl ?_
  refine x_pI HE dX2_init_6 fd_X18_0 q178 (Or.inl rfl) (Or.inr ⟨rfl, hn, rfl⟩) (nf_int _) (EB.tag f0 (by decide)) (nro (by decide)) (Or.inl nf_X18_0) (fun m6 em6 E6 => ?_)
  have hw := hw m6 em6
  exact x_vret HE hr dX2_init_9 hw
theorem k_X2_init_at_X18 {G : GT} {x0 x1 : Int} {Q : Hp → Prop} {h : Hp} (f0 : hT h x0 = 25) (l : Launch) (hw : g_X2_init_at_X18 x0 x1 Q h) : XM G l yX2_init cX2_init 2 none 1 20 [rV x0, iV x1] (QV Q) h :=
  XM.of (by decide) (Nat.le_of_ble_eq_true rfl) (fun X HE hr hn => w_X2_init_at_X18_0 HE hr hn f0 hw)
def g_X18_init (x0 x1 : Int) (Q : Hp → Prop) (h : Hp) : Prop :=
  g_X2_init_at_X18 x0 x1 (fun m2 => Ext h m2 → (Q m2)) h
theorem w_X18_init_0 {G : GT} {X : ET} {h0 : Hp} {x0 x1 : Int} (HE : XE G X cX18_init 2 RX18 2 41 h0) (hr : XR X none) (hn : XN X "<init>") (f0 : hT h0 x0 = 25) {Q : Hp → Prop} {h : Hp} (hw : g_X18_init x0 x1 Q h) : Wx G X h0 (QV Q) h 0 [some (rV x0), some (iV x1)] [] := by
  refine Wx.start (fun EB => ?_)
  unfold g_X18_init at hw
  refine x_aload_n HE 0 dX18_init_0 rfl rfl ?_
  refine x_iload_n HE 1 dX18_init_1 rfl rfl ?_
  refine Wx.wf (fun wf2 => ?_)
  refine x_callI HE dX18_init_2 rfl (fun l => k_X2_init_at_X18 (EB.tag f0 (by decide)) l hw) (As := [iV x1]) (rest := []) rfl (tag_pos wf2 (EB.tag f0 (by decide)) (by decide)) q961 q124 q175 q176 rfl hy_X2_init.2 rfl rfl (Nat.le_of_ble_eq_true rfl) (Nat.le_of_ble_eq_true rfl) (Nat.le_of_ble_eq_true rfl) (kkV (fun m2 E2 hw => ?_))
  have hw := hw E2
  exact x_vret HE hr dX18_init_5 hw
theorem k_X18_init {G : GT} {x0 x1 : Int} {Q : Hp → Prop} {h : Hp} (f0 : hT h x0 = 25) (l : Launch) (hw : g_X18_init x0 x1 Q h) : XM G l yX18_init cX18_init 2 none 2 41 [rV x0, iV x1] (QV Q) h :=
  XM.of (by decide) (Nat.le_of_ble_eq_true rfl) (fun X HE hr hn => w_X18_init_0 HE hr hn f0 hw)
def g_X2_init_at_X19 (x0 x1 : Int) (Q : Hp → Prop) (h : Hp) : Prop :=
  ∀ m6 : Hp, m6 = setF h x0 0 x1 → (Q m6)
theorem w_X2_init_at_X19_0 {G : GT} {X : ET} {h0 : Hp} {x0 x1 : Int} (HE : XE G X cX2_init 2 RX2 1 20 h0) (hr : XR X none) (hn : XN X "<init>") (f0 : hT h0 x0 = 26) {Q : Hp → Prop} {h : Hp} (hw : g_X2_init_at_X19 x0 x1 Q h) : Wx G X h0 (QV Q) h 0 [some (rV x0), some (iV x1)] [] := by
  refine Wx.start (fun EB => ?_)
  unfold g_X2_init_at_X19 at hw
  refine x_aload_n HE 0 dX2_init_0 rfl rfl ?_
  refine Wx.wf (fun wf1 => ?_)
  refine x_objInit HE dX2_init_1 rfl q177 q170 q171 (tag_pos wf1 (EB.tag f0 (by decide)) (by decide)) (Nat.le_of_ble_eq_true rfl) (Nat.le_of_ble_eq_true rfl) (Nat.le_of_ble_eq_true rfl) ?_
  refine x_aload_n HE 0 dX2_init_4 rfl rfl ?_
  refine x_iload_n HE 1 dX2_init_5 rfl rfl ?_
  refine x_pI HE dX2_init_6 fd_X19_0 q178 (Or.inl rfl) (Or.inr ⟨rfl, hn, rfl⟩) (nf_int _) (EB.tag f0 (by decide)) (nro (by decide)) (Or.inl nf_X19_0) (fun m6 em6 E6 => ?_)
  have hw := hw m6 em6
  exact x_vret HE hr dX2_init_9 hw
theorem k_X2_init_at_X19 {G : GT} {x0 x1 : Int} {Q : Hp → Prop} {h : Hp} (f0 : hT h x0 = 26) (l : Launch) (hw : g_X2_init_at_X19 x0 x1 Q h) : XM G l yX2_init cX2_init 2 none 1 20 [rV x0, iV x1] (QV Q) h :=
  XM.of (by decide) (Nat.le_of_ble_eq_true rfl) (fun X HE hr hn => w_X2_init_at_X19_0 HE hr hn f0 hw)
def g_X19_init (x0 : Int) (Q : Hp → Prop) (h : Hp) : Prop :=
  g_X2_init_at_X19 x0 0 (fun m2 => Ext h m2 → (Q m2)) h
theorem w_X19_init_0 {G : GT} {X : ET} {h0 : Hp} {x0 : Int} (HE : XE G X cX19_init 1 RX19 2 41 h0) (hr : XR X none) (hn : XN X "<init>") (f0 : hT h0 x0 = 26) {Q : Hp → Prop} {h : Hp} (hw : g_X19_init x0 Q h) : Wx G X h0 (QV Q) h 0 [some (rV x0)] [] := by
  refine Wx.start (fun EB => ?_)
  unfold g_X19_init at hw
  refine x_aload_n HE 0 dX19_init_0 rfl rfl ?_
  refine x_iconst HE dX19_init_1 (by decide) ?_
  refine Wx.wf (fun wf2 => ?_)
  refine x_callI HE dX19_init_2 rfl (fun l => k_X2_init_at_X19 (EB.tag f0 (by decide)) l hw) (As := [iV 0]) (rest := []) rfl (tag_pos wf2 (EB.tag f0 (by decide)) (by decide)) q969 q124 q175 q176 rfl hy_X2_init.2 rfl rfl (Nat.le_of_ble_eq_true rfl) (Nat.le_of_ble_eq_true rfl) (Nat.le_of_ble_eq_true rfl) (kkV (fun m2 E2 hw => ?_))
  have hw := hw E2
  exact x_vret HE hr dX19_init_5 hw
theorem k_X19_init {G : GT} {x0 : Int} {Q : Hp → Prop} {h : Hp} (f0 : hT h x0 = 26) (l : Launch) (hw : g_X19_init x0 Q h) : XM G l yX19_init cX19_init 1 none 2 41 [rV x0] (QV Q) h :=
  XM.of (by decide) (Nat.le_of_ble_eq_true rfl) (fun X HE hr hn => w_X19_init_0 HE hr hn f0 hw)
def g_X17_init (x0 x1 x2 : Int) (Q : Hp → Prop) (h : Hp) : Prop :=
  (capOK h 5) ∧ (∀ (a6 : Int) (m6 : Hp), a6 = hN h → m6 = alloc h 1 5 5 → WFa h → ((hF m6 x0 2 = 0) ∧ (∀ m8 : Hp, m8 = setF m6 x0 2 a6 → (∀ m14 : Hp, m14 = setF m8 x0 7 (-2) → ((hF m14 x0 0 = 0) ∧ (∀ m19 : Hp, m19 = setF m14 x0 0 x1 → ((hF m19 x0 1 = 0) ∧ (∀ m24 : Hp, m24 = setF m19 x0 1 x2 → (Q m24)))))))))
theorem w_X17_init_0 {G : GT} {X : ET} {h0 : Hp} {x0 x1 x2 : Int} (HE : XE G X cX17_init 3 RX17 1 20 h0) (hr : XR X none) (hn : XN X "<init>") (f0 : hT h0 x0 = 14) {Q : Hp → Prop} {h : Hp} (hw : g_X17_init x0 x1 x2 Q h) : Wx G X h0 (QV Q) h 0 [some (rV x0), some (rV x1), some (rV x2)] [] := by
  refine Wx.start (fun EB => ?_)
  unfold g_X17_init at hw
  refine x_aload_n HE 0 dX17_init_0 rfl rfl ?_
  refine Wx.wf (fun wf1 => ?_)
  refine x_objInit HE dX17_init_1 rfl q975 q170 q171 (tag_pos wf1 (EB.tag f0 (by decide)) (by decide)) (Nat.le_of_ble_eq_true rfl) (Nat.le_of_ble_eq_true rfl) (Nat.le_of_ble_eq_true rfl) ?_
  refine x_aload_n HE 0 dX17_init_4 rfl rfl ?_
  refine x_iconst HE dX17_init_5 (by decide) ?_
  obtain ⟨v6, hw⟩ := hw
  refine x_newIN HE dX17_init_6 q1019 (by decide) v6 (fun a6 m6 ea6 em6 E6 w6 => ?_)
  have hw := hw a6 m6 ea6 em6 w6
  have t6 := alloc_tag ea6 em6
  have l6 := alloc_len ea6 em6
  obtain ⟨z8, hw⟩ := hw
  refine x_pR HE dX17_init_8 fd_X17_2 q981 (Or.inl rfl) (Or.inr ⟨rfl, hn, rfl⟩) (nf_arr _ _) ((EB.tr E6).tag f0 (by decide)) (nro (by decide)) (Or.inr z8) (fun m8 em8 E8 => ?_)
  have hw := hw m8 em8
  refine x_aload_n HE 0 dX17_init_11 rfl rfl ?_
  refine x_bipush HE dX17_init_12 (by decide) ?_
  refine x_pI HE dX17_init_14 fd_X17_7 q998 (Or.inl rfl) (Or.inl rfl) (nf_int _) ((EB.tr (E6.tr E8)).tag f0 (by decide)) (nro (by decide)) (Or.inl nf_X17_7) (fun m14 em14 E14 => ?_)
  have hw := hw m14 em14
  refine x_aload_n HE 0 dX17_init_17 rfl rfl ?_
  refine x_aload_n HE 1 dX17_init_18 rfl rfl ?_
  obtain ⟨z19, hw⟩ := hw
  refine x_pR HE dX17_init_19 fd_X17_0 q976 (Or.inl rfl) (Or.inr ⟨rfl, hn, rfl⟩) (nf_obj _ _) ((EB.tr (E6.tr (E8.tr E14))).tag f0 (by decide)) (nro (by decide)) (Or.inr z19) (fun m19 em19 E19 => ?_)
  have hw := hw m19 em19
  refine x_aload_n HE 0 dX17_init_22 rfl rfl ?_
  refine x_aload_n HE 2 dX17_init_23 rfl rfl ?_
  obtain ⟨z24, hw⟩ := hw
  refine x_pR HE dX17_init_24 fd_X17_1 q978 (Or.inl rfl) (Or.inr ⟨rfl, hn, rfl⟩) (nf_obj _ _) ((EB.tr (E6.tr (E8.tr (E14.tr E19)))).tag f0 (by decide)) (nro (by decide)) (Or.inr z24) (fun m24 em24 E24 => ?_)
  have hw := hw m24 em24
  exact x_vret HE hr dX17_init_27 hw
theorem k_X17_init {G : GT} {x0 x1 x2 : Int} {Q : Hp → Prop} {h : Hp} (f0 : hT h x0 = 14) (l : Launch) (hw : g_X17_init x0 x1 x2 Q h) : XM G l yX17_init cX17_init 3 none 1 20 [rV x0, rV x1, rV x2] (QV Q) h :=
  XM.of (by decide) (Nat.le_of_ble_eq_true rfl) (fun X HE hr hn => w_X17_init_0 HE hr hn f0 hw)
def g_X20_init (x0 x1 x2 x3 : Int) (Q : Hp → Prop) (h : Hp) : Prop :=
  ∀ m6 : Hp, m6 = setF h x0 0 x1 → (∀ m11 : Hp, m11 = setF m6 x0 1 x2 → (∀ m16 : Hp, m16 = setF m11 x0 2 x3 → (Q m16)))
theorem w_X20_init_0 {G : GT} {X : ET} {h0 : Hp} {x0 x1 x2 x3 : Int} (HE : XE G X cX20_init 4 RX20 1 20 h0) (hr : XR X none) (hn : XN X "<init>") (f0 : hT h0 x0 = 17) {Q : Hp → Prop} {h : Hp} (hw : g_X20_init x0 x1 x2 x3 Q h) : Wx G X h0 (QV Q) h 0 [some (rV x0), some (iV x1), some (iV x2), some (iV x3)] [] := by
  refine Wx.start (fun EB => ?_)
  unfold g_X20_init at hw
  refine x_aload_n HE 0 dX20_init_0 rfl rfl ?_
  refine Wx.wf (fun wf1 => ?_)
  refine x_objInit HE dX20_init_1 rfl q1058 q170 q171 (tag_pos wf1 (EB.tag f0 (by decide)) (by decide)) (Nat.le_of_ble_eq_true rfl) (Nat.le_of_ble_eq_true rfl) (Nat.le_of_ble_eq_true rfl) ?_
  refine x_aload_n HE 0 dX20_init_4 rfl rfl ?_
  refine x_iload_n HE 1 dX20_init_5 rfl rfl ?_
  refine x_pI HE dX20_init_6 fd_X20_0 q1059 (Or.inl rfl) (Or.inr ⟨rfl, hn, rfl⟩) (nf_int _) (EB.tag f0 (by decide)) (nro (by decide)) (Or.inl nf_X20_0) (fun m6 em6 E6 => ?_)
  have hw := hw m6 em6
  refine x_aload_n HE 0 dX20_init_9 rfl rfl ?_
  refine x_iload_n HE 2 dX20_init_10 rfl rfl ?_
  refine x_pI HE dX20_init_11 fd_X20_1 q1061 (Or.inl rfl) (Or.inr ⟨rfl, hn, rfl⟩) (nf_int _) ((EB.tr E6).tag f0 (by decide)) (nro (by decide)) (Or.inl nf_X20_1) (fun m11 em11 E11 => ?_)
  have hw := hw m11 em11
  refine x_aload_n HE 0 dX20_init_14 rfl rfl ?_
  refine x_iload_n HE 3 dX20_init_15 rfl rfl ?_
  refine x_pI HE dX20_init_16 fd_X20_2 q1064 (Or.inl rfl) (Or.inr ⟨rfl, hn, rfl⟩) (nf_int _) ((EB.tr (E6.tr E11)).tag f0 (by decide)) (nro (by decide)) (Or.inl nf_X20_2) (fun m16 em16 E16 => ?_)
  have hw := hw m16 em16
  exact x_vret HE hr dX20_init_19 hw
theorem k_X20_init {G : GT} {x0 x1 x2 x3 : Int} {Q : Hp → Prop} {h : Hp} (f0 : hT h x0 = 17) (l : Launch) (hw : g_X20_init x0 x1 x2 x3 Q h) : XM G l yX20_init cX20_init 4 none 1 20 [rV x0, iV x1, iV x2, iV x3] (QV Q) h :=
  XM.of (by decide) (Nat.le_of_ble_eq_true rfl) (fun X HE hr hn => w_X20_init_0 HE hr hn f0 hw)
def g_X2_says (x0 x1 : Int) (Q : Int → Hp → Prop) (h : Hp) : Prop :=
  Q x1 h
theorem w_X2_says_0 {G : GT} {X : ET} {h0 : Hp} {x0 x1 : Int} (HE : XE G X cX2_says 2 RX2 0 0 h0) (hr : XR X (some .int)) {Q : Int → Hp → Prop} {h : Hp} (hw : g_X2_says x0 x1 Q h) : Wx G X h0 (QI Q) h 0 [some (rV x0), some (iV x1)] [] := by
  refine Wx.start (fun EB => ?_)
  unfold g_X2_says at hw
  refine x_iload_n HE 1 dX2_says_0 rfl rfl ?_
  exact x_iret HE hr dX2_says_1 hw
theorem k_X2_says {G : GT} {x0 x1 : Int} {Q : Int → Hp → Prop} {h : Hp} (l : Launch) (hw : g_X2_says x0 x1 Q h) : XM G l yX2_says cX2_says 2 (some .int) 0 0 [rV x0, iV x1] (QI Q) h :=
  XM.of (by decide) (Nat.le_of_ble_eq_true rfl) (fun X HE hr hn => w_X2_says_0 HE hr  hw)
def g_X3_says (x0 x1 : Int) (Q : Int → Hp → Prop) (h : Hp) : Prop :=
  g_X2_says x0 x1 (fun r2 m2 => Ext h m2 → ((i32 (r2 - (hF m2 x0 0))) ∧ (Q (r2 - (hF m2 x0 0)) m2))) h
theorem w_X3_says_0 {G : GT} {X : ET} {h0 : Hp} {x0 x1 : Int} (HE : XE G X cX3_says 2 RX3 1 21 h0) (hr : XR X (some .int)) (f0 : hT h0 x0 = 24) {Q : Int → Hp → Prop} {h : Hp} (hw : g_X3_says x0 x1 Q h) : Wx G X h0 (QI Q) h 0 [some (rV x0), some (iV x1)] [] := by
  refine Wx.start (fun EB => ?_)
  unfold g_X3_says at hw
  refine x_aload_n HE 0 dX3_says_0 rfl rfl ?_
  refine x_iload_n HE 1 dX3_says_1 rfl rfl ?_
  refine x_callSU HE dX3_says_2 rfl (fun l => k_X2_says  l hw) (As := [iV x1]) (rest := []) rfl xc24 (EB.tag f0 (by decide)) (lw_app (fun w hw2 => xw5 q1100 q1096 q195 q1094 q124 w hw2) (lw_meth q1101)) ⟨by decide, hy_X2_says.2.2.2⟩ rfl rfl (Nat.le_of_ble_eq_true rfl) (Nat.le_of_ble_eq_true rfl) (Nat.le_of_ble_eq_true rfl) (kkI (fun r2 m2 E2 hw => ?_))
  have hw := hw E2
  refine x_aload_n HE 0 dX3_says_5 rfl rfl ?_
  refine x_gI HE dX3_says_6 fd_X3_0 q179 (Or.inr q180) ((EB.tr E2).tag f0 (by decide)) rfl ?_
  obtain ⟨v9, hw⟩ := hw
  refine x_isub HE dX3_says_9 v9 ?_
  exact x_iret HE hr dX3_says_10 hw
theorem k_X3_says {G : GT} {x0 x1 : Int} {Q : Int → Hp → Prop} {h : Hp} (f0 : hT h x0 = 24) (l : Launch) (hw : g_X3_says x0 x1 Q h) : XM G l yX3_says cX3_says 2 (some .int) 1 21 [rV x0, iV x1] (QI Q) h :=
  XM.of (by decide) (Nat.le_of_ble_eq_true rfl) (fun X HE hr hn => w_X3_says_0 HE hr f0 hw)
def g_X18_says (x0 x1 : Int) (Q : Int → Hp → Prop) (h : Hp) : Prop :=
  g_X2_says x0 x1 (fun r2 m2 => Ext h m2 → ((i32 (r2 + (hF m2 x0 0))) ∧ (Q (r2 + (hF m2 x0 0)) m2))) h
theorem w_X18_says_0 {G : GT} {X : ET} {h0 : Hp} {x0 x1 : Int} (HE : XE G X cX18_says 2 RX18 1 21 h0) (hr : XR X (some .int)) (f0 : hT h0 x0 = 25) {Q : Int → Hp → Prop} {h : Hp} (hw : g_X18_says x0 x1 Q h) : Wx G X h0 (QI Q) h 0 [some (rV x0), some (iV x1)] [] := by
  refine Wx.start (fun EB => ?_)
  unfold g_X18_says at hw
  refine x_aload_n HE 0 dX18_says_0 rfl rfl ?_
  refine x_iload_n HE 1 dX18_says_1 rfl rfl ?_
  refine x_callSU HE dX18_says_2 rfl (fun l => k_X2_says  l hw) (As := [iV x1]) (rest := []) rfl xc25 (EB.tag f0 (by decide)) (lw_app (fun w hw2 => xw5 q1105 q1096 q963 q1094 q124 w hw2) (lw_meth q1101)) ⟨by decide, hy_X2_says.2.2.2⟩ rfl rfl (Nat.le_of_ble_eq_true rfl) (Nat.le_of_ble_eq_true rfl) (Nat.le_of_ble_eq_true rfl) (kkI (fun r2 m2 E2 hw => ?_))
  have hw := hw E2
  refine x_aload_n HE 0 dX18_says_5 rfl rfl ?_
  refine x_gI HE dX18_says_6 fd_X18_0 q181 (Or.inr q182) ((EB.tr E2).tag f0 (by decide)) rfl ?_
  obtain ⟨v9, hw⟩ := hw
  refine x_iadd HE dX18_says_9 v9 ?_
  exact x_iret HE hr dX18_says_10 hw
theorem k_X18_says {G : GT} {x0 x1 : Int} {Q : Int → Hp → Prop} {h : Hp} (f0 : hT h x0 = 25) (l : Launch) (hw : g_X18_says x0 x1 Q h) : XM G l yX18_says cX18_says 2 (some .int) 1 21 [rV x0, iV x1] (QI Q) h :=
  XM.of (by decide) (Nat.le_of_ble_eq_true rfl) (fun X HE hr hn => w_X18_says_0 HE hr f0 hw)
def g_X2_isRegular (x0 : Int) (Q : Int → Hp → Prop) (h : Hp) : Prop :=
  Q 0 h
theorem w_X2_isRegular_0 {G : GT} {X : ET} {h0 : Hp} {x0 : Int} (HE : XE G X cX2_isRegular 1 RX2 0 0 h0) (hr : XR X (some .boolean)) {Q : Int → Hp → Prop} {h : Hp} (hw : g_X2_isRegular x0 Q h) : Wx G X h0 (QI Q) h 0 [some (rV x0)] [] := by
  refine Wx.start (fun EB => ?_)
  unfold g_X2_isRegular at hw
  refine x_iconst HE dX2_isRegular_0 (by decide) ?_
  exact x_zret HE hr dX2_isRegular_1 (by decide) hw
theorem k_X2_isRegular {G : GT} {x0 : Int} {Q : Int → Hp → Prop} {h : Hp} (l : Launch) (hw : g_X2_isRegular x0 Q h) : XM G l yX2_isRegular cX2_isRegular 1 (some .boolean) 0 0 [rV x0] (QI Q) h :=
  XM.of (by decide) (Nat.le_of_ble_eq_true rfl) (fun X HE hr hn => w_X2_isRegular_0 HE hr  hw)
def g_X19_isRegular (x0 : Int) (Q : Int → Hp → Prop) (h : Hp) : Prop :=
  Q 1 h
theorem w_X19_isRegular_0 {G : GT} {X : ET} {h0 : Hp} {x0 : Int} (HE : XE G X cX19_isRegular 1 RX19 0 0 h0) (hr : XR X (some .boolean)) {Q : Int → Hp → Prop} {h : Hp} (hw : g_X19_isRegular x0 Q h) : Wx G X h0 (QI Q) h 0 [some (rV x0)] [] := by
  refine Wx.start (fun EB => ?_)
  unfold g_X19_isRegular at hw
  refine x_iconst HE dX19_isRegular_0 (by decide) ?_
  exact x_zret HE hr dX19_isRegular_1 (by decide) hw
theorem k_X19_isRegular {G : GT} {x0 : Int} {Q : Int → Hp → Prop} {h : Hp} (l : Launch) (hw : g_X19_isRegular x0 Q h) : XM G l yX19_isRegular cX19_isRegular 1 (some .boolean) 0 0 [rV x0] (QI Q) h :=
  XM.of (by decide) (Nat.le_of_ble_eq_true rfl) (fun X HE hr hn => w_X19_isRegular_0 HE hr  hw)
def g_X21_takesManner (x0 x1 x2 : Int) (Q : Hp → Prop) (h : Hp) : Prop :=
  (Lay_X7 h (hF h x0 0)) ∧ (g_J2_get ((hF h x0 0) + 3) x1 (fun r14 m14 => Ext h m14 → ((Lay_X17 m14 r14) ∧ (∀ K_23 : Int → Hp → Prop, K_23 = (fun (r23 : Int) (m23 : Hp) => Ext m14 m23 → (((0 : Int) ≤ x1 ∧ x1 < 10) ∧ (∀ m26 : Hp, m26 = setA m23 (x0 + 4) x1 r23 → (∀ K_33 : Int → Hp → Prop, K_33 = (fun (r33 : Int) (m33 : Hp) => Ext m26 m33 → (((0 : Int) ≤ x1 ∧ x1 < 10) ∧ ((r33 = 0 ∨ r33 = 1) ∧ (∀ m36 : Hp, m36 = setA m33 (x0 + 13) x1 r33 → (Q m36))))) → ((hT m26 x2 = 23 ∨ hT m26 x2 = 24 ∨ hT m26 x2 = 25 ∨ hT m26 x2 = 26) ∧ (hT m26 x2 = 23 → g_X2_isRegular x2 K_33 m26) ∧ (hT m26 x2 = 24 → g_X2_isRegular x2 K_33 m26) ∧ (hT m26 x2 = 25 → g_X2_isRegular x2 K_33 m26) ∧ (hT m26 x2 = 26 → g_X19_isRegular x2 K_33 m26)))))) → ((hT m14 x2 = 23 ∨ hT m14 x2 = 24 ∨ hT m14 x2 = 25 ∨ hT m14 x2 = 26) ∧ (hT m14 x2 = 23 → g_X2_says x2 (hF m14 r14 3) K_23 m14) ∧ (hT m14 x2 = 24 → g_X3_says x2 (hF m14 r14 3) K_23 m14) ∧ (hT m14 x2 = 25 → g_X18_says x2 (hF m14 r14 3) K_23 m14) ∧ (hT m14 x2 = 26 → g_X2_says x2 (hF m14 r14 3) K_23 m14))))) h)
theorem w_X21_takesManner_0 {G : GT} {X : ET} {h0 : Hp} {x0 x1 x2 : Int} (HE : XE G X cX21_takesManner 3 RX21 3 64 h0) (hr : XR X none) (f0 : Lay_X21 h0 x0) {Q : Hp → Prop} {h : Hp} (hw : g_X21_takesManner x0 x1 x2 Q h) : Wx G X h0 (QV Q) h 0 [some (rV x0), some (iV x1), some (rV x2)] [] := by
  refine Wx.start (fun EB => ?_)
  unfold g_X21_takesManner at hw
  refine x_aload_n HE 0 dX21_takesManner_0 rfl rfl ?_
  refine x_gR HE dX21_takesManner_1 fd_X21_5 q1133 (Or.inl rfl) (Lay_X21.tag (f0.ext EB)) (Lay_X21_5 (f0.ext EB)).1 ?_
  refine x_iload_n HE 1 dX21_takesManner_4 rfl rfl ?_
  refine x_aload_n HE 2 dX21_takesManner_5 rfl rfl ?_
  refine x_aload_n HE 0 dX21_takesManner_6 rfl rfl ?_
  refine x_gR HE dX21_takesManner_7 fd_X21_0 q1122 (Or.inl rfl) (Lay_X21.tag (f0.ext EB)) rfl ?_
  obtain ⟨v10, hw⟩ := hw
  refine x_gR HE dX21_takesManner_10 fd_X7_5 q328 (Or.inl rfl) (Lay_X7.tag v10) (Lay_X7_5 v10).1 ?_
  refine x_iload_n HE 1 dX21_takesManner_13 rfl rfl ?_
  refine x_callV HE dX21_takesManner_14 rfl (fun l => k_J2_get ((Lay_X7_5 v10).2) l hw) (As := [iV x1]) (rest := [rV x2, iV x1, rV (x0 + 4)]) rfl xc32 ((Lay_X7_5 v10).2) (lw_V q1087 q736 q737 q128 q738) hy_J2_get rfl rfl (Nat.le_of_ble_eq_true rfl) (Nat.le_of_ble_eq_true rfl) (Nat.le_of_ble_eq_true rfl) (kkR (fun r14 m14 E14 hw => ?_))
  have hw := hw E14
  obtain ⟨v17, hw⟩ := hw
  refine x_castS HE dX21_takesManner_17 xc14 q1088 (Lay_X17.tag v17) ?_
  refine x_gI HE dX21_takesManner_20 fd_X17_3 q986 (Or.inl rfl) (Lay_X17.tag v17) rfl ?_
  have hw := hw _ rfl
  have hk23 : ∀ (r23 : Int) (m23 : Hp), Ext m14 m23 → (((0 : Int) ≤ x1 ∧ x1 < 10) ∧ (∀ m26 : Hp, m26 = setA m23 (x0 + 4) x1 r23 → (∀ K_33 : Int → Hp → Prop, K_33 = (fun (r33 : Int) (m33 : Hp) => Ext m26 m33 → (((0 : Int) ≤ x1 ∧ x1 < 10) ∧ ((r33 = 0 ∨ r33 = 1) ∧ (∀ m36 : Hp, m36 = setA m33 (x0 + 13) x1 r33 → (Q m36))))) → ((hT m26 x2 = 23 ∨ hT m26 x2 = 24 ∨ hT m26 x2 = 25 ∨ hT m26 x2 = 26) ∧ (hT m26 x2 = 23 → g_X2_isRegular x2 K_33 m26) ∧ (hT m26 x2 = 24 → g_X2_isRegular x2 K_33 m26) ∧ (hT m26 x2 = 25 → g_X2_isRegular x2 K_33 m26) ∧ (hT m26 x2 = 26 → g_X19_isRegular x2 K_33 m26))))) → Wx G X h0 (QV Q) m23 26 [some (rV x0), some (iV x1), some (rV x2)] (iV r23 :: [iV x1, rV (x0 + 4)]) := by
    intro r23 m23 E23 hw
    obtain ⟨i26, hw⟩ := hw
    refine x_iast HE dX21_takesManner_26 ((Lay_X21_5 (f0.ext (EB.tr (E14.tr E23)))).2.1) (ix_of ((Lay_X21_5 (f0.ext (EB.tr (E14.tr E23)))).2.2) i26) (fun m26 em26 E26 => ?_)
    have hw := hw m26 em26
    refine x_aload_n HE 0 dX21_takesManner_27 rfl rfl ?_
    refine x_gR HE dX21_takesManner_28 fd_X21_14 q1151 (Or.inl rfl) (Lay_X21.tag (f0.ext (EB.tr (E14.tr (E23.tr E26))))) (Lay_X21_14 (f0.ext (EB.tr (E14.tr (E23.tr E26))))).1 ?_
    refine x_iload_n HE 1 dX21_takesManner_31 rfl rfl ?_
    refine x_aload_n HE 2 dX21_takesManner_32 rfl rfl ?_
    have hw := hw _ rfl
    have hk33 : ∀ (r33 : Int) (m33 : Hp), Ext m26 m33 → (((0 : Int) ≤ x1 ∧ x1 < 10) ∧ ((r33 = 0 ∨ r33 = 1) ∧ (∀ m36 : Hp, m36 = setA m33 (x0 + 13) x1 r33 → (Q m36)))) → Wx G X h0 (QV Q) m33 36 [some (rV x0), some (iV x1), some (rV x2)] (iV r33 :: [iV x1, rV (x0 + 13)]) := by
      intro r33 m33 E33 hw
      obtain ⟨i36, hw⟩ := hw
      obtain ⟨b36, hw⟩ := hw
      refine x_zast HE dX21_takesManner_36 ((Lay_X21_14 (f0.ext (EB.tr (E14.tr (E23.tr (E26.tr E33)))))).2.1) (ix_of ((Lay_X21_14 (f0.ext (EB.tr (E14.tr (E23.tr (E26.tr E33)))))).2.2) i36) b36 (fun m36 em36 E36 => ?_)
      have hw := hw m36 em36
      exact x_vret HE hr dX21_takesManner_37 hw
    obtain ⟨hd33, hw⟩ := hw
    rcases hd33 with t33_0 | t33_1 | t33_2 | t33_3
    · exact x_callV HE dX21_takesManner_33 rfl (fun l => k_X2_isRegular  l (hw.1 t33_0)) (As := []) (rest := [iV x1, rV (x0 + 13)]) rfl xc23 t33_0 (lw_V q1107 q1108 q1109 q124 q1116) hy_X2_isRegular rfl rfl (Nat.le_of_ble_eq_true rfl) (Nat.le_of_ble_eq_true rfl) (Nat.le_of_ble_eq_true rfl) (kkI (fun r h1 E hq => hk33 r h1 E (hq E)))
    · exact x_callU (C := RX3) HE dX21_takesManner_33 rfl (fun l => k_X2_isRegular  l (hw.2.1 t33_1)) (As := []) (rest := [iV x1, rV (x0 + 13)]) rfl xc24 t33_1 (fun ht hK hR => va_cwU 0 ht (lw_app (fun w hw2 => xw5 q1107 q1110 q1111 q1108 q124 w hw2) (lw_meth q1116)) rfl rfl rfl rfl hy_X2_isRegular.2 hR) rfl rfl (Nat.le_of_ble_eq_true rfl) (Nat.le_of_ble_eq_true rfl) (Nat.le_of_ble_eq_true rfl) (kkI (fun r h1 E hq => hk33 r h1 E (hq E)))
    · exact x_callU (C := RX18) HE dX21_takesManner_33 rfl (fun l => k_X2_isRegular  l (hw.2.2.1 t33_2)) (As := []) (rest := [iV x1, rV (x0 + 13)]) rfl xc25 t33_2 (fun ht hK hR => va_cwU 0 ht (lw_app (fun w hw2 => xw5 q1107 q1110 q1112 q1108 q124 w hw2) (lw_meth q1116)) rfl rfl rfl rfl hy_X2_isRegular.2 hR) rfl rfl (Nat.le_of_ble_eq_true rfl) (Nat.le_of_ble_eq_true rfl) (Nat.le_of_ble_eq_true rfl) (kkI (fun r h1 E hq => hk33 r h1 E (hq E)))
    · exact x_callU (C := RX19) HE dX21_takesManner_33 rfl (fun l => k_X19_isRegular  l (hw.2.2.2 t33_3)) (As := []) (rest := [iV x1, rV (x0 + 13)]) rfl xc26 t33_3 (fun ht hK hR => va_cwO 0 ht (lw_app (fun w hw2 => xw6 q1107 q1110 q1108 q1113 q1114 q155 w hw2) (lw_meth q1115)) rfl rfl rfl q1116 hy_X2_isRegular.2 hR) rfl rfl (Nat.le_of_ble_eq_true rfl) (Nat.le_of_ble_eq_true rfl) (Nat.le_of_ble_eq_true rfl) (kkI (fun r h1 E hq => hk33 r h1 E (hq E)))
  obtain ⟨hd23, hw⟩ := hw
  rcases hd23 with t23_0 | t23_1 | t23_2 | t23_3
  · exact x_callV HE dX21_takesManner_23 rfl (fun l => k_X2_says  l (hw.1 t23_0)) (As := [iV (hF m14 r14 3)]) (rest := [iV x1, rV (x0 + 4)]) rfl xc23 t23_0 (lw_V q1093 q1094 q1095 q124 q1101) hy_X2_says rfl rfl (Nat.le_of_ble_eq_true rfl) (Nat.le_of_ble_eq_true rfl) (Nat.le_of_ble_eq_true rfl) (kkI (fun r h1 E hq => hk23 r h1 E (hq E)))
  · exact x_callU (C := RX3) HE dX21_takesManner_23 rfl (fun l => k_X3_says t23_1 l (hw.2.1 t23_1)) (As := [iV (hF m14 r14 3)]) (rest := [iV x1, rV (x0 + 4)]) rfl xc24 t23_1 (fun ht hK hR => va_cwO 1 ht (lw_app (fun w hw2 => xw6 q1093 q1096 q1094 q1097 q1098 q125 w hw2) (lw_meth q1099)) rfl rfl rfl q1101 hy_X2_says.2 hR) rfl rfl (Nat.le_of_ble_eq_true rfl) (Nat.le_of_ble_eq_true rfl) (Nat.le_of_ble_eq_true rfl) (kkI (fun r h1 E hq => hk23 r h1 E (hq E)))
  · exact x_callU (C := RX18) HE dX21_takesManner_23 rfl (fun l => k_X18_says t23_2 l (hw.2.2.1 t23_2)) (As := [iV (hF m14 r14 3)]) (rest := [iV x1, rV (x0 + 4)]) rfl xc25 t23_2 (fun ht hK hR => va_cwO 1 ht (lw_app (fun w hw2 => xw6 q1093 q1096 q1094 q1102 q1103 q154 w hw2) (lw_meth q1104)) rfl rfl rfl q1101 hy_X2_says.2 hR) rfl rfl (Nat.le_of_ble_eq_true rfl) (Nat.le_of_ble_eq_true rfl) (Nat.le_of_ble_eq_true rfl) (kkI (fun r h1 E hq => hk23 r h1 E (hq E)))
  · exact x_callU (C := RX19) HE dX21_takesManner_23 rfl (fun l => k_X2_says  l (hw.2.2.2 t23_3)) (As := [iV (hF m14 r14 3)]) (rest := [iV x1, rV (x0 + 4)]) rfl xc26 t23_3 (fun ht hK hR => va_cwU 1 ht (lw_app (fun w hw2 => xw5 q1093 q1096 q1106 q1094 q124 w hw2) (lw_meth q1101)) rfl rfl rfl rfl hy_X2_says.2 hR) rfl rfl (Nat.le_of_ble_eq_true rfl) (Nat.le_of_ble_eq_true rfl) (Nat.le_of_ble_eq_true rfl) (kkI (fun r h1 E hq => hk23 r h1 E (hq E)))
theorem k_X21_takesManner {G : GT} {x0 x1 x2 : Int} {Q : Hp → Prop} {h : Hp} (f0 : Lay_X21 h x0) (l : Launch) (hw : g_X21_takesManner x0 x1 x2 Q h) : XM G l yX21_takesManner cX21_takesManner 3 none 3 64 [rV x0, iV x1, rV x2] (QV Q) h :=
  XM.of (by decide) (Nat.le_of_ble_eq_true rfl) (fun X HE hr hn => w_X21_takesManner_0 HE hr f0 hw)
def g_X21_adds (x0 x1 : Int) (Q : Hp → Prop) (h : Hp) : Prop :=
  (hT h x1 = 16) ∧ (((0 : Int) ≤ (hF h x0 23) ∧ (hF h x0 23) < 4) ∧ (((6, hT h (hF h x1 1)) ∈ xTak) ∧ (∀ m12 : Hp, m12 = setA h (x0 + 14) (hF h x0 23) (hF h x1 1) → (((0 : Int) ≤ (hF m12 x0 23) ∧ (hF m12 x0 23) < 4) ∧ (∀ m25 : Hp, m25 = setA m12 (x0 + 15) (hF m12 x0 23) (hF m12 x1 2) → (((0 : Int) ≤ (hF m25 x0 23) ∧ (hF m25 x0 23) < 4) ∧ (∀ m38 : Hp, m38 = setA m25 (x0 + 16) (hF m25 x0 23) (hF m25 x1 3) → (((0 : Int) ≤ (hF m38 x0 23) ∧ (hF m38 x0 23) < 4) ∧ (∀ m51 : Hp, m51 = setA m38 (x0 + 17) (hF m38 x0 23) (hF m38 x1 4) → (((0 : Int) ≤ (hF m51 x0 23) ∧ (hF m51 x0 23) < 4) ∧ (∀ m64 : Hp, m64 = setA m51 (x0 + 18) (hF m51 x0 23) (hF m51 x1 5) → (((0 : Int) ≤ (hF m64 x0 23) ∧ (hF m64 x0 23) < 4) ∧ (∀ m77 : Hp, m77 = setA m64 (x0 + 19) (hF m64 x0 23) (hF m64 x1 6) → (((0 : Int) ≤ (hF m77 x0 23) ∧ (hF m77 x0 23) < 4) ∧ (∀ m87 : Hp, m87 = setA m77 (x0 + 21) (hF m77 x0 23) (-1) → ((i32 ((hF m87 x0 23) + 1)) ∧ (∀ m95 : Hp, m95 = setF m87 x0 23 ((hF m87 x0 23) + 1) → (Q m95))))))))))))))))))
theorem w_X21_adds_0 {G : GT} {X : ET} {h0 : Hp} {x0 x1 : Int} (HE : XE G X cX21_adds 2 RX21 0 0 h0) (hr : XR X none) (f0 : Lay_X21 h0 x0) {Q : Hp → Prop} {h : Hp} (hw : g_X21_adds x0 x1 Q h) : Wx G X h0 (QV Q) h 0 [some (rV x0), some (rV x1)] [] := by
  refine Wx.start (fun EB => ?_)
  unfold g_X21_adds at hw
  refine x_aload_n HE 0 dX21_adds_0 rfl rfl ?_
  refine x_gR HE dX21_adds_1 fd_X21_15 q1153 (Or.inl rfl) (Lay_X21.tag (f0.ext EB)) (Lay_X21_15 (f0.ext EB)).1 ?_
  refine x_aload_n HE 0 dX21_adds_4 rfl rfl ?_
  refine x_gI HE dX21_adds_5 fd_X21_23 q1169 (Or.inl rfl) (Lay_X21.tag (f0.ext EB)) rfl ?_
  refine x_aload_n HE 1 dX21_adds_8 rfl rfl ?_
  obtain ⟨v9, hw⟩ := hw
  refine x_gR HE dX21_adds_9 fd_X10_1 q905 (Or.inl rfl) v9 rfl ?_
  obtain ⟨i12, hw⟩ := hw
  obtain ⟨b12, hw⟩ := hw
  refine x_aast HE dX21_adds_12 b12 ((Lay_X21_15 (f0.ext EB)).2.1) rfl (ix_of ((Lay_X21_15 (f0.ext EB)).2.2) i12) (fun m12 em12 E12 => ?_)
  have hw := hw m12 em12
  refine x_aload_n HE 0 dX21_adds_13 rfl rfl ?_
  refine x_gR HE dX21_adds_14 fd_X21_16 q1155 (Or.inl rfl) (Lay_X21.tag (f0.ext (EB.tr E12))) (Lay_X21_16 (f0.ext (EB.tr E12))).1 ?_
  refine x_aload_n HE 0 dX21_adds_17 rfl rfl ?_
  refine x_gI HE dX21_adds_18 fd_X21_23 q1169 (Or.inl rfl) (Lay_X21.tag (f0.ext (EB.tr E12))) rfl ?_
  refine x_aload_n HE 1 dX21_adds_21 rfl rfl ?_
  refine x_gI HE dX21_adds_22 fd_X10_2 q906 (Or.inl rfl) (E12.tag v9 (by decide)) rfl ?_
  obtain ⟨i25, hw⟩ := hw
  refine x_iast HE dX21_adds_25 ((Lay_X21_16 (f0.ext (EB.tr E12))).2.1) (ix_of ((Lay_X21_16 (f0.ext (EB.tr E12))).2.2) i25) (fun m25 em25 E25 => ?_)
  have hw := hw m25 em25
  refine x_aload_n HE 0 dX21_adds_26 rfl rfl ?_
  refine x_gR HE dX21_adds_27 fd_X21_17 q1159 (Or.inl rfl) (Lay_X21.tag (f0.ext (EB.tr (E12.tr E25)))) (Lay_X21_17 (f0.ext (EB.tr (E12.tr E25)))).1 ?_
  refine x_aload_n HE 0 dX21_adds_30 rfl rfl ?_
  refine x_gI HE dX21_adds_31 fd_X21_23 q1169 (Or.inl rfl) (Lay_X21.tag (f0.ext (EB.tr (E12.tr E25)))) rfl ?_
  refine x_aload_n HE 1 dX21_adds_34 rfl rfl ?_
  refine x_gI HE dX21_adds_35 fd_X10_3 q909 (Or.inl rfl) ((E12.tr E25).tag v9 (by decide)) rfl ?_
  obtain ⟨i38, hw⟩ := hw
  refine x_iast HE dX21_adds_38 ((Lay_X21_17 (f0.ext (EB.tr (E12.tr E25)))).2.1) (ix_of ((Lay_X21_17 (f0.ext (EB.tr (E12.tr E25)))).2.2) i38) (fun m38 em38 E38 => ?_)
  have hw := hw m38 em38
  refine x_aload_n HE 0 dX21_adds_39 rfl rfl ?_
  refine x_gR HE dX21_adds_40 fd_X21_18 q1161 (Or.inl rfl) (Lay_X21.tag (f0.ext (EB.tr (E12.tr (E25.tr E38))))) (Lay_X21_18 (f0.ext (EB.tr (E12.tr (E25.tr E38))))).1 ?_
  refine x_aload_n HE 0 dX21_adds_43 rfl rfl ?_
  refine x_gI HE dX21_adds_44 fd_X21_23 q1169 (Or.inl rfl) (Lay_X21.tag (f0.ext (EB.tr (E12.tr (E25.tr E38))))) rfl ?_
  refine x_aload_n HE 1 dX21_adds_47 rfl rfl ?_
  refine x_gI HE dX21_adds_48 fd_X10_4 q911 (Or.inl rfl) ((E12.tr (E25.tr E38)).tag v9 (by decide)) rfl ?_
  obtain ⟨i51, hw⟩ := hw
  refine x_iast HE dX21_adds_51 ((Lay_X21_18 (f0.ext (EB.tr (E12.tr (E25.tr E38))))).2.1) (ix_of ((Lay_X21_18 (f0.ext (EB.tr (E12.tr (E25.tr E38))))).2.2) i51) (fun m51 em51 E51 => ?_)
  have hw := hw m51 em51
  refine x_aload_n HE 0 dX21_adds_52 rfl rfl ?_
  refine x_gR HE dX21_adds_53 fd_X21_19 q1163 (Or.inl rfl) (Lay_X21.tag (f0.ext (EB.tr (E12.tr (E25.tr (E38.tr E51)))))) (Lay_X21_19 (f0.ext (EB.tr (E12.tr (E25.tr (E38.tr E51)))))).1 ?_
  refine x_aload_n HE 0 dX21_adds_56 rfl rfl ?_
  refine x_gI HE dX21_adds_57 fd_X21_23 q1169 (Or.inl rfl) (Lay_X21.tag (f0.ext (EB.tr (E12.tr (E25.tr (E38.tr E51)))))) rfl ?_
  refine x_aload_n HE 1 dX21_adds_60 rfl rfl ?_
  refine x_gI HE dX21_adds_61 fd_X10_5 q914 (Or.inl rfl) ((E12.tr (E25.tr (E38.tr E51))).tag v9 (by decide)) rfl ?_
  obtain ⟨i64, hw⟩ := hw
  refine x_iast HE dX21_adds_64 ((Lay_X21_19 (f0.ext (EB.tr (E12.tr (E25.tr (E38.tr E51)))))).2.1) (ix_of ((Lay_X21_19 (f0.ext (EB.tr (E12.tr (E25.tr (E38.tr E51)))))).2.2) i64) (fun m64 em64 E64 => ?_)
  have hw := hw m64 em64
  refine x_aload_n HE 0 dX21_adds_65 rfl rfl ?_
  refine x_gR HE dX21_adds_66 fd_X21_20 q1164 (Or.inl rfl) (Lay_X21.tag (f0.ext (EB.tr (E12.tr (E25.tr (E38.tr (E51.tr E64))))))) (Lay_X21_20 (f0.ext (EB.tr (E12.tr (E25.tr (E38.tr (E51.tr E64))))))).1 ?_
  refine x_aload_n HE 0 dX21_adds_69 rfl rfl ?_
  refine x_gI HE dX21_adds_70 fd_X21_23 q1169 (Or.inl rfl) (Lay_X21.tag (f0.ext (EB.tr (E12.tr (E25.tr (E38.tr (E51.tr E64))))))) rfl ?_
  refine x_aload_n HE 1 dX21_adds_73 rfl rfl ?_
  refine x_gI HE dX21_adds_74 fd_X10_6 q917 (Or.inl rfl) ((E12.tr (E25.tr (E38.tr (E51.tr E64)))).tag v9 (by decide)) rfl ?_
  obtain ⟨i77, hw⟩ := hw
  refine x_iast HE dX21_adds_77 ((Lay_X21_20 (f0.ext (EB.tr (E12.tr (E25.tr (E38.tr (E51.tr E64))))))).2.1) (ix_of ((Lay_X21_20 (f0.ext (EB.tr (E12.tr (E25.tr (E38.tr (E51.tr E64))))))).2.2) i77) (fun m77 em77 E77 => ?_)
  have hw := hw m77 em77
  refine x_aload_n HE 0 dX21_adds_78 rfl rfl ?_
  refine x_gR HE dX21_adds_79 fd_X21_22 q1167 (Or.inl rfl) (Lay_X21.tag (f0.ext (EB.tr (E12.tr (E25.tr (E38.tr (E51.tr (E64.tr E77)))))))) (Lay_X21_22 (f0.ext (EB.tr (E12.tr (E25.tr (E38.tr (E51.tr (E64.tr E77)))))))).1 ?_
  refine x_aload_n HE 0 dX21_adds_82 rfl rfl ?_
  refine x_gI HE dX21_adds_83 fd_X21_23 q1169 (Or.inl rfl) (Lay_X21.tag (f0.ext (EB.tr (E12.tr (E25.tr (E38.tr (E51.tr (E64.tr E77)))))))) rfl ?_
  refine x_iconst HE dX21_adds_86 (by decide) ?_
  obtain ⟨i87, hw⟩ := hw
  refine x_iast HE dX21_adds_87 ((Lay_X21_22 (f0.ext (EB.tr (E12.tr (E25.tr (E38.tr (E51.tr (E64.tr E77)))))))).2.1) (ix_of ((Lay_X21_22 (f0.ext (EB.tr (E12.tr (E25.tr (E38.tr (E51.tr (E64.tr E77)))))))).2.2) i87) (fun m87 em87 E87 => ?_)
  have hw := hw m87 em87
  refine x_aload_n HE 0 dX21_adds_88 rfl rfl ?_
  refine x_dup HE dX21_adds_89 (fun o => o) ?_
  refine x_gI HE dX21_adds_90 fd_X21_23 q1169 (Or.inl rfl) (Lay_X21.tag (f0.ext (EB.tr (E12.tr (E25.tr (E38.tr (E51.tr (E64.tr (E77.tr E87))))))))) rfl ?_
  refine x_iconst HE dX21_adds_93 (by decide) ?_
  obtain ⟨v94, hw⟩ := hw
  refine x_iadd HE dX21_adds_94 v94 ?_
  refine x_pI HE dX21_adds_95 fd_X21_23 q1169 (Or.inl rfl) (Or.inl rfl) (nf_int _) (Lay_X21.tag (f0.ext (EB.tr (E12.tr (E25.tr (E38.tr (E51.tr (E64.tr (E77.tr E87))))))))) (nro (by decide)) (Or.inl nf_X21_23) (fun m95 em95 E95 => ?_)
  have hw := hw m95 em95
  exact x_vret HE hr dX21_adds_98 hw
theorem k_X21_adds {G : GT} {x0 x1 : Int} {Q : Hp → Prop} {h : Hp} (f0 : Lay_X21 h x0) (l : Launch) (hw : g_X21_adds x0 x1 Q h) : XM G l yX21_adds cX21_adds 2 none 0 0 [rV x0, rV x1] (QV Q) h :=
  XM.of (by decide) (Nat.le_of_ble_eq_true rfl) (fun X HE hr hn => w_X21_adds_0 HE hr f0 hw)
def g_X21_init_b315 (x0 x1 : Int) (Q : Hp → Prop) (h : Hp) : Prop :=
  Q h
theorem w_X21_init_315 {G : GT} {X : ET} {h0 : Hp} {x0 x1 : Int} (HE : XE G X cX21_init 4 RX21 4 86 h0) (hr : XR X none) (hn : XN X "<init>") (f0 : hT h0 x0 = 13) {Q : Hp → Prop} {h : Hp} (hw : g_X21_init_b315 x0 x1 Q  h) : Wx G X h0 (QV Q) h 315 [some (rV x0), some (rV x1), none, none] [] := by
  refine Wx.start (fun EB => ?_)
  unfold g_X21_init_b315 at hw
  exact x_vret HE hr dX21_init_315 hw
def g_X21_init_L283 (x0 x1 : Int) (Q : Hp → Prop) (K283 : Int → Hp → Prop) (l2 : Int) (h : Hp) : Prop :=
  (Lay_X7 h x1) ∧ (g_J2_size (x1 + 2) (fun r288 m288 => Ext h m288 → (((r288 ≤ l2) → (g_X21_init_b315 x0 x1 Q m288)) ∧ ((l2 < r288) → (g_J2_get (x1 + 2) l2 (fun r300 m300 => Ext m288 m300 → ((hT m300 r300 = 16) ∧ ((Lay_X21 m300 x0) ∧ (g_X21_adds x0 r300 (fun m306 => Ext m300 m306 → ((i32 (l2 + 1)) ∧ (∀ y309 : Int, y309 = l2 + 1 → (K283 y309 m306)))) m300)))) m288)))) h)
theorem w_X21_init_283 {G : GT} {X : ET} {h0 : Hp} {x0 x1 : Int} (HE : XE G X cX21_init 4 RX21 4 86 h0) (hr : XR X none) (hn : XN X "<init>") (f0 : hT h0 x0 = 13) {Q : Hp → Prop} {K283 : Int → Hp → Prop} (hK283 : ∀ (l2 : Int) (h : Hp), K283 l2 h → Wx G X h0 (QV Q) h 283 [some (rV x0), some (rV x1), some (iV l2), none] []) {l2 : Int} {h : Hp} (hw : g_X21_init_L283 x0 x1 Q K283 l2 h) : Wx G X h0 (QV Q) h 283 [some (rV x0), some (rV x1), some (iV l2), none] [] := by
  refine Wx.start (fun EB => ?_)
  unfold g_X21_init_L283 at hw
  refine x_iload_n HE 2 dX21_init_283 rfl rfl ?_
  refine x_aload_n HE 1 dX21_init_284 rfl rfl ?_
  obtain ⟨v285, hw⟩ := hw
  refine x_gR HE dX21_init_285 fd_X7_4 q324 (Or.inl rfl) (Lay_X7.tag v285) (Lay_X7_4 v285).1 ?_
  refine x_callV HE dX21_init_288 rfl (fun l => k_J2_size ((Lay_X7_4 v285).2) l hw) (As := []) (rest := [iV l2]) rfl xc32 ((Lay_X7_4 v285).2) (lw_V q1086 q708 q709 q128 q710) hy_J2_size rfl rfl (Nat.le_of_ble_eq_true rfl) (Nat.le_of_ble_eq_true rfl) (Nat.le_of_ble_eq_true rfl) (kkI (fun r288 m288 E288 hw => ?_))
  have hw := hw E288
  refine x_ic_ge HE 315 dX21_init_291 (by decide) (fun c291 => ?_) (fun c291 => ?_)
  · have hw := hw.1 c291
    refine Wx.mask [true, true, false, true] (lo2 := [some (rV x0), some (rV x1), none, none]) rfl ?_
    exact w_X21_init_315 HE hr hn f0 hw
  · have hw := hw.2 c291
    refine x_aload_n HE 0 dX21_init_294 rfl rfl ?_
    refine x_aload_n HE 1 dX21_init_295 rfl rfl ?_
    refine x_gR HE dX21_init_296 fd_X7_4 q324 (Or.inl rfl) (Lay_X7.tag (v285.ext E288)) (Lay_X7_4 (v285.ext E288)).1 ?_
    refine x_iload_n HE 2 dX21_init_299 rfl rfl ?_
    refine x_callV HE dX21_init_300 rfl (fun l => k_J2_get ((Lay_X7_4 (v285.ext E288)).2) l hw) (As := [iV l2]) (rest := [rV x0]) rfl xc32 ((Lay_X7_4 (v285.ext E288)).2) (lw_V q1087 q736 q737 q128 q738) hy_J2_get rfl rfl (Nat.le_of_ble_eq_true rfl) (Nat.le_of_ble_eq_true rfl) (Nat.le_of_ble_eq_true rfl) (kkR (fun r300 m300 E300 hw => ?_))
    have hw := hw E300
    obtain ⟨v303, hw⟩ := hw
    refine x_castS HE dX21_init_303 xc16 q1117 v303 ?_
    obtain ⟨u306_0, hw⟩ := hw
    refine x_callV HE dX21_init_306 rfl (fun l => k_X21_adds u306_0 l hw) (As := [rV r300]) (rest := []) rfl xc13 (Lay_X21.tag u306_0) (lw_V q1118 q1119 q1120 q157 q1121) hy_X21_adds rfl rfl (Nat.le_of_ble_eq_true rfl) (Nat.le_of_ble_eq_true rfl) (Nat.le_of_ble_eq_true rfl) (kkV (fun m306 E306 hw => ?_))
    have hw := hw E306
    obtain ⟨v309, hw⟩ := hw
    refine x_iincN HE (fun y309 => [some (rV x0), some (rV x1), some (iV y309), none]) dX21_init_309 rfl v309 (Nat.le_of_ble_eq_true rfl) (fun _ => rfl) (fun y309 ey309 => ?_)
    have hw := hw y309 ey309
    refine x_goto HE 283 dX21_init_312 (by decide) ?_
    exact hK283 _ _ hw
theorem wl_X21_init_283 {G : GT} {X : ET} {h0 : Hp} {x0 x1 : Int} (HE : XE G X cX21_init 4 RX21 4 86 h0) (hr : XR X none) (hn : XN X "<init>") (f0 : hT h0 x0 = 13) {Q : Hp → Prop} {l2 : Int} {h : Hp} (hw : Lp1 (g_X21_init_L283 x0 x1 Q) l2 h) : Wx G X h0 (QV Q) h 283 [some (rV x0), some (rV x1), some (iV l2), none] [] := by
  obtain ⟨n, hw⟩ := hw
  induction n generalizing l2 h with
  | zero => exact hw.elim
  | succ n ih => exact w_X21_init_283 HE hr hn f0 (fun _ _ hk => ih hk) hw
def g_X21_init_b281 (x0 x1 : Int) (Q : Hp → Prop) (h : Hp) : Prop :=
  Lp1 (g_X21_init_L283 x0 x1 Q) 0 h
theorem w_X21_init_281 {G : GT} {X : ET} {h0 : Hp} {x0 x1 : Int} (HE : XE G X cX21_init 4 RX21 4 86 h0) (hr : XR X none) (hn : XN X "<init>") (f0 : hT h0 x0 = 13) {Q : Hp → Prop} {h : Hp} (hw : g_X21_init_b281 x0 x1 Q  h) : Wx G X h0 (QV Q) h 281 [some (rV x0), some (rV x1), none, none] [] := by
  refine Wx.start (fun EB => ?_)
  unfold g_X21_init_b281 at hw
  refine x_iconst HE dX21_init_281 (by decide) ?_
  refine x_istore_n HE 2 (lo' := [some (rV x0), some (rV x1), some (iV 0), none]) dX21_init_282 rfl (Nat.le_of_ble_eq_true rfl) rfl ?_
  exact wl_X21_init_283 HE hr hn f0 hw
def g_X21_init_L192 (x0 x1 : Int) (Q : Hp → Prop) (K192 : Int → Hp → Prop) (l2 : Int) (h : Hp) : Prop :=
  (((hF h x0 1) ≤ l2) → (g_X21_init_b281 x0 x1 Q h)) ∧ ((l2 < (hF h x0 1)) → ((Lay_X7 h x1) ∧ (g_J2_get (x1 + 3) l2 (fun r205 m205 => Ext h m205 → ((Lay_X17 m205 r205) ∧ ((hT m205 (hF m205 x0 3) = 1) ∧ (((0 : Int) ≤ l2 ∧ l2 < hL m205 (hF m205 x0 3)) ∧ (∀ m221 : Hp, m221 = setA m205 (hF m205 x0 3) l2 (hF m205 r205 4) → ((hT m221 (hF m221 x0 4) = 1) ∧ (((0 : Int) ≤ l2 ∧ l2 < hL m221 (hF m221 x0 4)) ∧ (∀ m231 : Hp, m231 = setA m221 (hF m221 x0 4) l2 (hF m221 r205 6) → ((hT m231 (hF m231 x0 6) = 1) ∧ (((0 : Int) ≤ l2 ∧ l2 < hL m231 (hF m231 x0 6)) ∧ (∀ m241 : Hp, m241 = setA m231 (hF m231 x0 6) l2 (hF m231 r205 7) → ((hT m241 (hF m241 x0 7) = 1) ∧ (((0 : Int) ≤ l2 ∧ l2 < hL m241 (hF m241 x0 7)) ∧ (∀ m249 : Hp, m249 = setA m241 (hF m241 x0 7) l2 (-2) → ((hT m249 (hF m249 x0 8) = 1) ∧ (((0 : Int) ≤ l2 ∧ l2 < hL m249 (hF m249 x0 8)) ∧ (∀ m257 : Hp, m257 = setA m249 (hF m249 x0 8) l2 (-2) → ((hT m257 (hF m257 x0 9) = 1) ∧ (((0 : Int) ≤ l2 ∧ l2 < hL m257 (hF m257 x0 9)) ∧ (∀ m265 : Hp, m265 = setA m257 (hF m257 x0 9) l2 (-2) → ((Lay_X21 m265 x0) ∧ (g_X21_takesManner x0 l2 (hF m265 r205 1) (fun m272 => Ext m265 m272 → ((i32 (l2 + 1)) ∧ (∀ y275 : Int, y275 = l2 + 1 → (K192 y275 m272)))) m265)))))))))))))))))))))) h)))
theorem w_X21_init_192 {G : GT} {X : ET} {h0 : Hp} {x0 x1 : Int} (HE : XE G X cX21_init 4 RX21 4 86 h0) (hr : XR X none) (hn : XN X "<init>") (f0 : hT h0 x0 = 13) {Q : Hp → Prop} {K192 : Int → Hp → Prop} (hK192 : ∀ (l2 : Int) (h : Hp), K192 l2 h → Wx G X h0 (QV Q) h 192 [some (rV x0), some (rV x1), some (iV l2), none] []) {l2 : Int} {h : Hp} (hw : g_X21_init_L192 x0 x1 Q K192 l2 h) : Wx G X h0 (QV Q) h 192 [some (rV x0), some (rV x1), some (iV l2), none] [] := by
  refine Wx.start (fun EB => ?_)
  unfold g_X21_init_L192 at hw
  refine x_iload_n HE 2 dX21_init_192 rfl rfl ?_
  refine x_aload_n HE 0 dX21_init_193 rfl rfl ?_
  refine x_gI HE dX21_init_194 fd_X21_1 q1123 (Or.inl rfl) (EB.tag f0 (by decide)) rfl ?_
  refine x_ic_ge HE 281 dX21_init_197 (by decide) (fun c197 => ?_) (fun c197 => ?_)
  · have hw := hw.1 c197
    refine Wx.mask [true, true, false, true] (lo2 := [some (rV x0), some (rV x1), none, none]) rfl ?_
    exact w_X21_init_281 HE hr hn f0 hw
  · have hw := hw.2 c197
    refine x_aload_n HE 1 dX21_init_200 rfl rfl ?_
    obtain ⟨v201, hw⟩ := hw
    refine x_gR HE dX21_init_201 fd_X7_5 q328 (Or.inl rfl) (Lay_X7.tag v201) (Lay_X7_5 v201).1 ?_
    refine x_iload_n HE 2 dX21_init_204 rfl rfl ?_
    refine x_callV HE dX21_init_205 rfl (fun l => k_J2_get ((Lay_X7_5 v201).2) l hw) (As := [iV l2]) (rest := []) rfl xc32 ((Lay_X7_5 v201).2) (lw_V q1087 q736 q737 q128 q738) hy_J2_get rfl rfl (Nat.le_of_ble_eq_true rfl) (Nat.le_of_ble_eq_true rfl) (Nat.le_of_ble_eq_true rfl) (kkR (fun r205 m205 E205 hw => ?_))
    have hw := hw E205
    obtain ⟨v208, hw⟩ := hw
    refine x_castS HE dX21_init_208 xc14 q1088 (Lay_X17.tag v208) ?_
    refine x_astore_n HE 3 (lo' := [some (rV x0), some (rV x1), some (iV l2), some (rV r205)]) dX21_init_211 rfl (Nat.le_of_ble_eq_true rfl) rfl ?_
    refine x_aload_n HE 0 dX21_init_212 rfl rfl ?_
    refine x_gR HE dX21_init_213 fd_X21_3 q1126 (Or.inl rfl) ((EB.tr E205).tag f0 (by decide)) rfl ?_
    refine x_iload_n HE 2 dX21_init_216 rfl rfl ?_
    refine x_aload_n HE 3 dX21_init_217 rfl rfl ?_
    refine x_gI HE dX21_init_218 fd_X17_4 q989 (Or.inl rfl) (Lay_X17.tag v208) rfl ?_
    obtain ⟨v221, hw⟩ := hw
    obtain ⟨i221, hw⟩ := hw
    refine x_iast HE dX21_init_221 v221 i221 (fun m221 em221 E221 => ?_)
    have hw := hw m221 em221
    refine x_aload_n HE 0 dX21_init_222 rfl rfl ?_
    refine x_gR HE dX21_init_223 fd_X21_4 q1130 (Or.inl rfl) ((EB.tr (E205.tr E221)).tag f0 (by decide)) rfl ?_
    refine x_iload_n HE 2 dX21_init_226 rfl rfl ?_
    refine x_aload_n HE 3 dX21_init_227 rfl rfl ?_
    refine x_gI HE dX21_init_228 fd_X17_6 q995 (Or.inl rfl) (Lay_X17.tag (v208.ext E221)) rfl ?_
    obtain ⟨v231, hw⟩ := hw
    obtain ⟨i231, hw⟩ := hw
    refine x_iast HE dX21_init_231 v231 i231 (fun m231 em231 E231 => ?_)
    have hw := hw m231 em231
    refine x_aload_n HE 0 dX21_init_232 rfl rfl ?_
    refine x_gR HE dX21_init_233 fd_X21_6 q1136 (Or.inl rfl) ((EB.tr (E205.tr (E221.tr E231))).tag f0 (by decide)) rfl ?_
    refine x_iload_n HE 2 dX21_init_236 rfl rfl ?_
    refine x_aload_n HE 3 dX21_init_237 rfl rfl ?_
    refine x_gI HE dX21_init_238 fd_X17_7 q999 (Or.inl rfl) (Lay_X17.tag (v208.ext (E221.tr E231))) rfl ?_
    obtain ⟨v241, hw⟩ := hw
    obtain ⟨i241, hw⟩ := hw
    refine x_iast HE dX21_init_241 v241 i241 (fun m241 em241 E241 => ?_)
    have hw := hw m241 em241
    refine x_aload_n HE 0 dX21_init_242 rfl rfl ?_
    refine x_gR HE dX21_init_243 fd_X21_7 q1138 (Or.inl rfl) ((EB.tr (E205.tr (E221.tr (E231.tr E241)))).tag f0 (by decide)) rfl ?_
    refine x_iload_n HE 2 dX21_init_246 rfl rfl ?_
    refine x_bipush HE dX21_init_247 (by decide) ?_
    obtain ⟨v249, hw⟩ := hw
    obtain ⟨i249, hw⟩ := hw
    refine x_iast HE dX21_init_249 v249 i249 (fun m249 em249 E249 => ?_)
    have hw := hw m249 em249
    refine x_aload_n HE 0 dX21_init_250 rfl rfl ?_
    refine x_gR HE dX21_init_251 fd_X21_8 q1140 (Or.inl rfl) ((EB.tr (E205.tr (E221.tr (E231.tr (E241.tr E249))))).tag f0 (by decide)) rfl ?_
    refine x_iload_n HE 2 dX21_init_254 rfl rfl ?_
    refine x_bipush HE dX21_init_255 (by decide) ?_
    obtain ⟨v257, hw⟩ := hw
    obtain ⟨i257, hw⟩ := hw
    refine x_iast HE dX21_init_257 v257 i257 (fun m257 em257 E257 => ?_)
    have hw := hw m257 em257
    refine x_aload_n HE 0 dX21_init_258 rfl rfl ?_
    refine x_gR HE dX21_init_259 fd_X21_9 q1142 (Or.inl rfl) ((EB.tr (E205.tr (E221.tr (E231.tr (E241.tr (E249.tr E257)))))).tag f0 (by decide)) rfl ?_
    refine x_iload_n HE 2 dX21_init_262 rfl rfl ?_
    refine x_bipush HE dX21_init_263 (by decide) ?_
    obtain ⟨v265, hw⟩ := hw
    obtain ⟨i265, hw⟩ := hw
    refine x_iast HE dX21_init_265 v265 i265 (fun m265 em265 E265 => ?_)
    have hw := hw m265 em265
    refine x_aload_n HE 0 dX21_init_266 rfl rfl ?_
    refine x_iload_n HE 2 dX21_init_267 rfl rfl ?_
    refine x_aload_n HE 3 dX21_init_268 rfl rfl ?_
    refine x_gR HE dX21_init_269 fd_X17_1 q979 (Or.inl rfl) (Lay_X17.tag (v208.ext (E221.tr (E231.tr (E241.tr (E249.tr (E257.tr E265))))))) rfl ?_
    obtain ⟨u272_0, hw⟩ := hw
    refine x_callV HE dX21_init_272 rfl (fun l => k_X21_takesManner u272_0 l hw) (As := [iV l2, rV (hF m265 r205 1)]) (rest := []) rfl xc13 (Lay_X21.tag u272_0) (lw_V q1089 q1090 q1091 q157 q1092) hy_X21_takesManner rfl rfl (Nat.le_of_ble_eq_true rfl) (Nat.le_of_ble_eq_true rfl) (Nat.le_of_ble_eq_true rfl) (kkV (fun m272 E272 hw => ?_))
    have hw := hw E272
    obtain ⟨v275, hw⟩ := hw
    refine x_iincN HE (fun y275 => [some (rV x0), some (rV x1), some (iV y275), some (rV r205)]) dX21_init_275 rfl v275 (Nat.le_of_ble_eq_true rfl) (fun _ => rfl) (fun y275 ey275 => ?_)
    have hw := hw y275 ey275
    refine x_goto HE 192 dX21_init_278 (by decide) ?_
    refine Wx.mask [true, true, true, false] (lo2 := [some (rV x0), some (rV x1), some (iV y275), none]) rfl ?_
    exact hK192 _ _ hw
theorem wl_X21_init_192 {G : GT} {X : ET} {h0 : Hp} {x0 x1 : Int} (HE : XE G X cX21_init 4 RX21 4 86 h0) (hr : XR X none) (hn : XN X "<init>") (f0 : hT h0 x0 = 13) {Q : Hp → Prop} {l2 : Int} {h : Hp} (hw : Lp1 (g_X21_init_L192 x0 x1 Q) l2 h) : Wx G X h0 (QV Q) h 192 [some (rV x0), some (rV x1), some (iV l2), none] [] := by
  obtain ⟨n, hw⟩ := hw
  induction n generalizing l2 h with
  | zero => exact hw.elim
  | succ n ih => exact w_X21_init_192 HE hr hn f0 (fun _ _ hk => ih hk) hw
def g_X21_init (x0 x1 : Int) (Q : Hp → Prop) (h : Hp) : Prop :=
  (capOK h 10) ∧ (∀ (a7 : Int) (m7 : Hp), a7 = hN h → m7 = alloc h 1 10 10 → WFa h → ((hF m7 x0 2 = 0) ∧ (∀ m9 : Hp, m9 = setF m7 x0 2 a7 → ((capOK m9 10) ∧ (∀ (a15 : Int) (m15 : Hp), a15 = hN m9 → m15 = alloc m9 1 10 10 → WFa m9 → ((hF m15 x0 3 = 0) ∧ (∀ m17 : Hp, m17 = setF m15 x0 3 a15 → ((capOK m17 10) ∧ (∀ (a23 : Int) (m23 : Hp), a23 = hN m17 → m23 = alloc m17 1 10 10 → WFa m17 → ((hF m23 x0 4 = 0) ∧ (∀ m25 : Hp, m25 = setF m23 x0 4 a23 → ((capOK m25 10) ∧ (∀ (a31 : Int) (m31 : Hp), a31 = hN m25 → m31 = alloc m25 1 10 10 → WFa m25 → ((hF m31 x0 5 = 0) ∧ (∀ m33 : Hp, m33 = setF m31 x0 5 a31 → ((capOK m33 10) ∧ (∀ (a39 : Int) (m39 : Hp), a39 = hN m33 → m39 = alloc m33 1 10 10 → WFa m33 → ((hF m39 x0 6 = 0) ∧ (∀ m41 : Hp, m41 = setF m39 x0 6 a39 → ((capOK m41 10) ∧ (∀ (a47 : Int) (m47 : Hp), a47 = hN m41 → m47 = alloc m41 1 10 10 → WFa m41 → ((hF m47 x0 7 = 0) ∧ (∀ m49 : Hp, m49 = setF m47 x0 7 a47 → ((capOK m49 10) ∧ (∀ (a55 : Int) (m55 : Hp), a55 = hN m49 → m55 = alloc m49 1 10 10 → WFa m49 → ((hF m55 x0 8 = 0) ∧ (∀ m57 : Hp, m57 = setF m55 x0 8 a55 → ((capOK m57 10) ∧ (∀ (a63 : Int) (m63 : Hp), a63 = hN m57 → m63 = alloc m57 1 10 10 → WFa m57 → ((hF m63 x0 9 = 0) ∧ (∀ m65 : Hp, m65 = setF m63 x0 9 a63 → ((capOK m65 10) ∧ (∀ (a71 : Int) (m71 : Hp), a71 = hN m65 → m71 = alloc m65 1 10 10 → WFa m65 → ((hF m71 x0 10 = 0) ∧ (∀ m73 : Hp, m73 = setF m71 x0 10 a71 → ((capOK m73 10) ∧ (∀ (a79 : Int) (m79 : Hp), a79 = hN m73 → m79 = alloc m73 1 10 10 → WFa m73 → ((hF m79 x0 11 = 0) ∧ (∀ m81 : Hp, m81 = setF m79 x0 11 a79 → ((capOK m81 10) ∧ (∀ (a87 : Int) (m87 : Hp), a87 = hN m81 → m87 = alloc m81 1 10 10 → WFa m81 → ((hF m87 x0 12 = 0) ∧ (∀ m89 : Hp, m89 = setF m87 x0 12 a87 → ((capOK m89 10) ∧ (∀ (a95 : Int) (m95 : Hp), a95 = hN m89 → m95 = alloc m89 1 10 10 → WFa m89 → ((hF m95 x0 13 = 0) ∧ (∀ m97 : Hp, m97 = setF m95 x0 13 a95 → ((capOK m97 10) ∧ (∀ (a103 : Int) (m103 : Hp), a103 = hN m97 → m103 = alloc m97 3 10 10 → WFa m97 → ((hF m103 x0 14 = 0) ∧ (∀ m105 : Hp, m105 = setF m103 x0 14 a103 → ((capOK m105 4) ∧ (∀ (a110 : Int) (m110 : Hp), a110 = hN m105 → m110 = alloc m105 6 4 4 → WFa m105 → ((hF m110 x0 15 = 0) ∧ (∀ m113 : Hp, m113 = setF m110 x0 15 a110 → ((capOK m113 4) ∧ (∀ (a118 : Int) (m118 : Hp), a118 = hN m113 → m118 = alloc m113 1 4 4 → WFa m113 → ((hF m118 x0 16 = 0) ∧ (∀ m120 : Hp, m120 = setF m118 x0 16 a118 → ((capOK m120 4) ∧ (∀ (a125 : Int) (m125 : Hp), a125 = hN m120 → m125 = alloc m120 1 4 4 → WFa m120 → ((hF m125 x0 17 = 0) ∧ (∀ m127 : Hp, m127 = setF m125 x0 17 a125 → ((capOK m127 4) ∧ (∀ (a132 : Int) (m132 : Hp), a132 = hN m127 → m132 = alloc m127 1 4 4 → WFa m127 → ((hF m132 x0 18 = 0) ∧ (∀ m134 : Hp, m134 = setF m132 x0 18 a132 → ((capOK m134 4) ∧ (∀ (a139 : Int) (m139 : Hp), a139 = hN m134 → m139 = alloc m134 1 4 4 → WFa m134 → ((hF m139 x0 19 = 0) ∧ (∀ m141 : Hp, m141 = setF m139 x0 19 a139 → ((capOK m141 4) ∧ (∀ (a146 : Int) (m146 : Hp), a146 = hN m141 → m146 = alloc m141 1 4 4 → WFa m141 → ((hF m146 x0 20 = 0) ∧ (∀ m148 : Hp, m148 = setF m146 x0 20 a146 → ((capOK m148 8) ∧ (∀ (a154 : Int) (m154 : Hp), a154 = hN m148 → m154 = alloc m148 1 8 8 → WFa m148 → ((hF m154 x0 21 = 0) ∧ (∀ m156 : Hp, m156 = setF m154 x0 21 a154 → ((capOK m156 4) ∧ (∀ (a161 : Int) (m161 : Hp), a161 = hN m156 → m161 = alloc m156 1 4 4 → WFa m156 → ((hF m161 x0 22 = 0) ∧ (∀ m163 : Hp, m163 = setF m161 x0 22 a161 → ((hF m163 x0 0 = 0) ∧ (∀ m168 : Hp, m168 = setF m163 x0 0 x1 → ((Lay_X7 m168 x1) ∧ (g_J2_size (x1 + 3) (fun r176 m176 => Ext m168 m176 → (∀ m179 : Hp, m179 = setF m176 x0 1 r176 → (∀ m187 : Hp, m187 = setF m179 x0 26 (hF m179 x1 1) → (Lp1 (g_X21_init_L192 x0 x1 Q) 0 m187)))) m168)))))))))))))))))))))))))))))))))))))))))))))))))))))))))))))))))))))))))))))))))))))))
theorem w_X21_init_0 {G : GT} {X : ET} {h0 : Hp} {x0 x1 : Int} (HE : XE G X cX21_init 4 RX21 4 86 h0) (hr : XR X none) (hn : XN X "<init>") (f0 : hT h0 x0 = 13) {Q : Hp → Prop} {h : Hp} (hw : g_X21_init x0 x1 Q h) : Wx G X h0 (QV Q) h 0 [some (rV x0), some (rV x1), none, none] [] := by
  refine Wx.start (fun EB => ?_)
  unfold g_X21_init at hw
  refine x_aload_n HE 0 dX21_init_0 rfl rfl ?_
  refine Wx.wf (fun wf1 => ?_)
  refine x_objInit HE dX21_init_1 rfl q1083 q170 q171 (tag_pos wf1 (EB.tag f0 (by decide)) (by decide)) (Nat.le_of_ble_eq_true rfl) (Nat.le_of_ble_eq_true rfl) (Nat.le_of_ble_eq_true rfl) ?_
  refine x_aload_n HE 0 dX21_init_4 rfl rfl ?_
  refine x_bipush HE dX21_init_5 (by decide) ?_
  obtain ⟨v7, hw⟩ := hw
  refine x_newIN HE dX21_init_7 q1019 (by decide) v7 (fun a7 m7 ea7 em7 E7 w7 => ?_)
  have hw := hw a7 m7 ea7 em7 w7
  have t7 := alloc_tag ea7 em7
  have l7 := alloc_len ea7 em7
  obtain ⟨z9, hw⟩ := hw
  refine x_pR HE dX21_init_9 fd_X21_2 q1124 (Or.inl rfl) (Or.inr ⟨rfl, hn, rfl⟩) (nf_arr _ _) ((EB.tr E7).tag f0 (by decide)) (nro (by decide)) (Or.inr z9) (fun m9 em9 E9 => ?_)
  have hw := hw m9 em9
  refine x_aload_n HE 0 dX21_init_12 rfl rfl ?_
  refine x_bipush HE dX21_init_13 (by decide) ?_
  obtain ⟨v15, hw⟩ := hw
  refine x_newIN HE dX21_init_15 q1019 (by decide) v15 (fun a15 m15 ea15 em15 E15 w15 => ?_)
  have hw := hw a15 m15 ea15 em15 w15
  have t15 := alloc_tag ea15 em15
  have l15 := alloc_len ea15 em15
  obtain ⟨z17, hw⟩ := hw
  refine x_pR HE dX21_init_17 fd_X21_3 q1126 (Or.inl rfl) (Or.inr ⟨rfl, hn, rfl⟩) (nf_arr _ _) ((EB.tr (E7.tr (E9.tr E15))).tag f0 (by decide)) (nro (by decide)) (Or.inr z17) (fun m17 em17 E17 => ?_)
  have hw := hw m17 em17
  refine x_aload_n HE 0 dX21_init_20 rfl rfl ?_
  refine x_bipush HE dX21_init_21 (by decide) ?_
  obtain ⟨v23, hw⟩ := hw
  refine x_newIN HE dX21_init_23 q1019 (by decide) v23 (fun a23 m23 ea23 em23 E23 w23 => ?_)
  have hw := hw a23 m23 ea23 em23 w23
  have t23 := alloc_tag ea23 em23
  have l23 := alloc_len ea23 em23
  obtain ⟨z25, hw⟩ := hw
  refine x_pR HE dX21_init_25 fd_X21_4 q1130 (Or.inl rfl) (Or.inr ⟨rfl, hn, rfl⟩) (nf_arr _ _) ((EB.tr (E7.tr (E9.tr (E15.tr (E17.tr E23))))).tag f0 (by decide)) (nro (by decide)) (Or.inr z25) (fun m25 em25 E25 => ?_)
  have hw := hw m25 em25
  refine x_aload_n HE 0 dX21_init_28 rfl rfl ?_
  refine x_bipush HE dX21_init_29 (by decide) ?_
  obtain ⟨v31, hw⟩ := hw
  refine x_newIN HE dX21_init_31 q1019 (by decide) v31 (fun a31 m31 ea31 em31 E31 w31 => ?_)
  have hw := hw a31 m31 ea31 em31 w31
  have t31 := alloc_tag ea31 em31
  have l31 := alloc_len ea31 em31
  obtain ⟨z33, hw⟩ := hw
  refine x_pR HE dX21_init_33 fd_X21_5 q1133 (Or.inl rfl) (Or.inr ⟨rfl, hn, rfl⟩) (nf_arr _ _) ((EB.tr (E7.tr (E9.tr (E15.tr (E17.tr (E23.tr (E25.tr E31))))))).tag f0 (by decide)) (nro (by decide)) (Or.inr z33) (fun m33 em33 E33 => ?_)
  have hw := hw m33 em33
  refine x_aload_n HE 0 dX21_init_36 rfl rfl ?_
  refine x_bipush HE dX21_init_37 (by decide) ?_
  obtain ⟨v39, hw⟩ := hw
  refine x_newIN HE dX21_init_39 q1019 (by decide) v39 (fun a39 m39 ea39 em39 E39 w39 => ?_)
  have hw := hw a39 m39 ea39 em39 w39
  have t39 := alloc_tag ea39 em39
  have l39 := alloc_len ea39 em39
  obtain ⟨z41, hw⟩ := hw
  refine x_pR HE dX21_init_41 fd_X21_6 q1136 (Or.inl rfl) (Or.inr ⟨rfl, hn, rfl⟩) (nf_arr _ _) ((EB.tr (E7.tr (E9.tr (E15.tr (E17.tr (E23.tr (E25.tr (E31.tr (E33.tr E39))))))))).tag f0 (by decide)) (nro (by decide)) (Or.inr z41) (fun m41 em41 E41 => ?_)
  have hw := hw m41 em41
  refine x_aload_n HE 0 dX21_init_44 rfl rfl ?_
  refine x_bipush HE dX21_init_45 (by decide) ?_
  obtain ⟨v47, hw⟩ := hw
  refine x_newIN HE dX21_init_47 q1019 (by decide) v47 (fun a47 m47 ea47 em47 E47 w47 => ?_)
  have hw := hw a47 m47 ea47 em47 w47
  have t47 := alloc_tag ea47 em47
  have l47 := alloc_len ea47 em47
  obtain ⟨z49, hw⟩ := hw
  refine x_pR HE dX21_init_49 fd_X21_7 q1138 (Or.inl rfl) (Or.inr ⟨rfl, hn, rfl⟩) (nf_arr _ _) ((EB.tr (E7.tr (E9.tr (E15.tr (E17.tr (E23.tr (E25.tr (E31.tr (E33.tr (E39.tr (E41.tr E47))))))))))).tag f0 (by decide)) (nro (by decide)) (Or.inr z49) (fun m49 em49 E49 => ?_)
  have hw := hw m49 em49
  refine x_aload_n HE 0 dX21_init_52 rfl rfl ?_
  refine x_bipush HE dX21_init_53 (by decide) ?_
  obtain ⟨v55, hw⟩ := hw
  refine x_newIN HE dX21_init_55 q1019 (by decide) v55 (fun a55 m55 ea55 em55 E55 w55 => ?_)
  have hw := hw a55 m55 ea55 em55 w55
  have t55 := alloc_tag ea55 em55
  have l55 := alloc_len ea55 em55
  obtain ⟨z57, hw⟩ := hw
  refine x_pR HE dX21_init_57 fd_X21_8 q1140 (Or.inl rfl) (Or.inr ⟨rfl, hn, rfl⟩) (nf_arr _ _) ((EB.tr (E7.tr (E9.tr (E15.tr (E17.tr (E23.tr (E25.tr (E31.tr (E33.tr (E39.tr (E41.tr (E47.tr (E49.tr E55))))))))))))).tag f0 (by decide)) (nro (by decide)) (Or.inr z57) (fun m57 em57 E57 => ?_)
  have hw := hw m57 em57
  refine x_aload_n HE 0 dX21_init_60 rfl rfl ?_
  refine x_bipush HE dX21_init_61 (by decide) ?_
  obtain ⟨v63, hw⟩ := hw
  refine x_newIN HE dX21_init_63 q1019 (by decide) v63 (fun a63 m63 ea63 em63 E63 w63 => ?_)
  have hw := hw a63 m63 ea63 em63 w63
  have t63 := alloc_tag ea63 em63
  have l63 := alloc_len ea63 em63
  obtain ⟨z65, hw⟩ := hw
  refine x_pR HE dX21_init_65 fd_X21_9 q1142 (Or.inl rfl) (Or.inr ⟨rfl, hn, rfl⟩) (nf_arr _ _) ((EB.tr (E7.tr (E9.tr (E15.tr (E17.tr (E23.tr (E25.tr (E31.tr (E33.tr (E39.tr (E41.tr (E47.tr (E49.tr (E55.tr (E57.tr E63))))))))))))))).tag f0 (by decide)) (nro (by decide)) (Or.inr z65) (fun m65 em65 E65 => ?_)
  have hw := hw m65 em65
  refine x_aload_n HE 0 dX21_init_68 rfl rfl ?_
  refine x_bipush HE dX21_init_69 (by decide) ?_
  obtain ⟨v71, hw⟩ := hw
  refine x_newIN HE dX21_init_71 q1019 (by decide) v71 (fun a71 m71 ea71 em71 E71 w71 => ?_)
  have hw := hw a71 m71 ea71 em71 w71
  have t71 := alloc_tag ea71 em71
  have l71 := alloc_len ea71 em71
  obtain ⟨z73, hw⟩ := hw
  refine x_pR HE dX21_init_73 fd_X21_10 q1144 (Or.inl rfl) (Or.inr ⟨rfl, hn, rfl⟩) (nf_arr _ _) ((EB.tr (E7.tr (E9.tr (E15.tr (E17.tr (E23.tr (E25.tr (E31.tr (E33.tr (E39.tr (E41.tr (E47.tr (E49.tr (E55.tr (E57.tr (E63.tr (E65.tr E71))))))))))))))))).tag f0 (by decide)) (nro (by decide)) (Or.inr z73) (fun m73 em73 E73 => ?_)
  have hw := hw m73 em73
  refine x_aload_n HE 0 dX21_init_76 rfl rfl ?_
  refine x_bipush HE dX21_init_77 (by decide) ?_
  obtain ⟨v79, hw⟩ := hw
  refine x_newIN HE dX21_init_79 q1019 (by decide) v79 (fun a79 m79 ea79 em79 E79 w79 => ?_)
  have hw := hw a79 m79 ea79 em79 w79
  have t79 := alloc_tag ea79 em79
  have l79 := alloc_len ea79 em79
  obtain ⟨z81, hw⟩ := hw
  refine x_pR HE dX21_init_81 fd_X21_11 q1145 (Or.inl rfl) (Or.inr ⟨rfl, hn, rfl⟩) (nf_arr _ _) ((EB.tr (E7.tr (E9.tr (E15.tr (E17.tr (E23.tr (E25.tr (E31.tr (E33.tr (E39.tr (E41.tr (E47.tr (E49.tr (E55.tr (E57.tr (E63.tr (E65.tr (E71.tr (E73.tr E79))))))))))))))))))).tag f0 (by decide)) (nro (by decide)) (Or.inr z81) (fun m81 em81 E81 => ?_)
  have hw := hw m81 em81
  refine x_aload_n HE 0 dX21_init_84 rfl rfl ?_
  refine x_bipush HE dX21_init_85 (by decide) ?_
  obtain ⟨v87, hw⟩ := hw
  refine x_newIN HE dX21_init_87 q1019 (by decide) v87 (fun a87 m87 ea87 em87 E87 w87 => ?_)
  have hw := hw a87 m87 ea87 em87 w87
  have t87 := alloc_tag ea87 em87
  have l87 := alloc_len ea87 em87
  obtain ⟨z89, hw⟩ := hw
  refine x_pR HE dX21_init_89 fd_X21_12 q1147 (Or.inl rfl) (Or.inr ⟨rfl, hn, rfl⟩) (nf_arr _ _) ((EB.tr (E7.tr (E9.tr (E15.tr (E17.tr (E23.tr (E25.tr (E31.tr (E33.tr (E39.tr (E41.tr (E47.tr (E49.tr (E55.tr (E57.tr (E63.tr (E65.tr (E71.tr (E73.tr (E79.tr (E81.tr E87))))))))))))))))))))).tag f0 (by decide)) (nro (by decide)) (Or.inr z89) (fun m89 em89 E89 => ?_)
  have hw := hw m89 em89
  refine x_aload_n HE 0 dX21_init_92 rfl rfl ?_
  refine x_bipush HE dX21_init_93 (by decide) ?_
  obtain ⟨v95, hw⟩ := hw
  refine x_newIN HE dX21_init_95 q1019 (by decide) v95 (fun a95 m95 ea95 em95 E95 w95 => ?_)
  have hw := hw a95 m95 ea95 em95 w95
  have t95 := alloc_tag ea95 em95
  have l95 := alloc_len ea95 em95
  obtain ⟨z97, hw⟩ := hw
  refine x_pR HE dX21_init_97 fd_X21_13 q1149 (Or.inl rfl) (Or.inr ⟨rfl, hn, rfl⟩) (nf_arr _ _) ((EB.tr (E7.tr (E9.tr (E15.tr (E17.tr (E23.tr (E25.tr (E31.tr (E33.tr (E39.tr (E41.tr (E47.tr (E49.tr (E55.tr (E57.tr (E63.tr (E65.tr (E71.tr (E73.tr (E79.tr (E81.tr (E87.tr (E89.tr E95))))))))))))))))))))))).tag f0 (by decide)) (nro (by decide)) (Or.inr z97) (fun m97 em97 E97 => ?_)
  have hw := hw m97 em97
  refine x_aload_n HE 0 dX21_init_100 rfl rfl ?_
  refine x_bipush HE dX21_init_101 (by decide) ?_
  obtain ⟨v103, hw⟩ := hw
  refine x_newZN HE dX21_init_103 q1232 (by decide) v103 (fun a103 m103 ea103 em103 E103 w103 => ?_)
  have hw := hw a103 m103 ea103 em103 w103
  have t103 := alloc_tag ea103 em103
  have l103 := alloc_len ea103 em103
  obtain ⟨z105, hw⟩ := hw
  refine x_pR HE dX21_init_105 fd_X21_14 q1151 (Or.inl rfl) (Or.inr ⟨rfl, hn, rfl⟩) (nf_arr _ _) ((EB.tr (E7.tr (E9.tr (E15.tr (E17.tr (E23.tr (E25.tr (E31.tr (E33.tr (E39.tr (E41.tr (E47.tr (E49.tr (E55.tr (E57.tr (E63.tr (E65.tr (E71.tr (E73.tr (E79.tr (E81.tr (E87.tr (E89.tr (E95.tr (E97.tr E103))))))))))))))))))))))))).tag f0 (by decide)) (nro (by decide)) (Or.inr z105) (fun m105 em105 E105 => ?_)
  have hw := hw m105 em105
  refine x_aload_n HE 0 dX21_init_108 rfl rfl ?_
  refine x_iconst HE dX21_init_109 (by decide) ?_
  obtain ⟨v110, hw⟩ := hw
  refine x_anewN (t := 6) HE dX21_init_110 (by decide) q1084 (by decide) v110 (fun a110 m110 ea110 em110 E110 w110 => ?_)
  have hw := hw a110 m110 ea110 em110 w110
  have t110 := alloc_tag ea110 em110
  have l110 := alloc_len ea110 em110
  obtain ⟨z113, hw⟩ := hw
  refine x_pR HE dX21_init_113 fd_X21_15 q1153 (Or.inl rfl) (Or.inr ⟨rfl, hn, rfl⟩) (nf_arr _ _) ((EB.tr (E7.tr (E9.tr (E15.tr (E17.tr (E23.tr (E25.tr (E31.tr (E33.tr (E39.tr (E41.tr (E47.tr (E49.tr (E55.tr (E57.tr (E63.tr (E65.tr (E71.tr (E73.tr (E79.tr (E81.tr (E87.tr (E89.tr (E95.tr (E97.tr (E103.tr (E105.tr E110))))))))))))))))))))))))))).tag f0 (by decide)) (nro (by decide)) (Or.inr z113) (fun m113 em113 E113 => ?_)
  have hw := hw m113 em113
  refine x_aload_n HE 0 dX21_init_116 rfl rfl ?_
  refine x_iconst HE dX21_init_117 (by decide) ?_
  obtain ⟨v118, hw⟩ := hw
  refine x_newIN HE dX21_init_118 q1019 (by decide) v118 (fun a118 m118 ea118 em118 E118 w118 => ?_)
  have hw := hw a118 m118 ea118 em118 w118
  have t118 := alloc_tag ea118 em118
  have l118 := alloc_len ea118 em118
  obtain ⟨z120, hw⟩ := hw
  refine x_pR HE dX21_init_120 fd_X21_16 q1155 (Or.inl rfl) (Or.inr ⟨rfl, hn, rfl⟩) (nf_arr _ _) ((EB.tr (E7.tr (E9.tr (E15.tr (E17.tr (E23.tr (E25.tr (E31.tr (E33.tr (E39.tr (E41.tr (E47.tr (E49.tr (E55.tr (E57.tr (E63.tr (E65.tr (E71.tr (E73.tr (E79.tr (E81.tr (E87.tr (E89.tr (E95.tr (E97.tr (E103.tr (E105.tr (E110.tr (E113.tr E118))))))))))))))))))))))))))))).tag f0 (by decide)) (nro (by decide)) (Or.inr z120) (fun m120 em120 E120 => ?_)
  have hw := hw m120 em120
  refine x_aload_n HE 0 dX21_init_123 rfl rfl ?_
  refine x_iconst HE dX21_init_124 (by decide) ?_
  obtain ⟨v125, hw⟩ := hw
  refine x_newIN HE dX21_init_125 q1019 (by decide) v125 (fun a125 m125 ea125 em125 E125 w125 => ?_)
  have hw := hw a125 m125 ea125 em125 w125
  have t125 := alloc_tag ea125 em125
  have l125 := alloc_len ea125 em125
  obtain ⟨z127, hw⟩ := hw
  refine x_pR HE dX21_init_127 fd_X21_17 q1159 (Or.inl rfl) (Or.inr ⟨rfl, hn, rfl⟩) (nf_arr _ _) ((EB.tr (E7.tr (E9.tr (E15.tr (E17.tr (E23.tr (E25.tr (E31.tr (E33.tr (E39.tr (E41.tr (E47.tr (E49.tr (E55.tr (E57.tr (E63.tr (E65.tr (E71.tr (E73.tr (E79.tr (E81.tr (E87.tr (E89.tr (E95.tr (E97.tr (E103.tr (E105.tr (E110.tr (E113.tr (E118.tr (E120.tr E125))))))))))))))))))))))))))))))).tag f0 (by decide)) (nro (by decide)) (Or.inr z127) (fun m127 em127 E127 => ?_)
  have hw := hw m127 em127
  refine x_aload_n HE 0 dX21_init_130 rfl rfl ?_
  refine x_iconst HE dX21_init_131 (by decide) ?_
  obtain ⟨v132, hw⟩ := hw
  refine x_newIN HE dX21_init_132 q1019 (by decide) v132 (fun a132 m132 ea132 em132 E132 w132 => ?_)
  have hw := hw a132 m132 ea132 em132 w132
  have t132 := alloc_tag ea132 em132
  have l132 := alloc_len ea132 em132
  obtain ⟨z134, hw⟩ := hw
  refine x_pR HE dX21_init_134 fd_X21_18 q1161 (Or.inl rfl) (Or.inr ⟨rfl, hn, rfl⟩) (nf_arr _ _) ((EB.tr (E7.tr (E9.tr (E15.tr (E17.tr (E23.tr (E25.tr (E31.tr (E33.tr (E39.tr (E41.tr (E47.tr (E49.tr (E55.tr (E57.tr (E63.tr (E65.tr (E71.tr (E73.tr (E79.tr (E81.tr (E87.tr (E89.tr (E95.tr (E97.tr (E103.tr (E105.tr (E110.tr (E113.tr (E118.tr (E120.tr (E125.tr (E127.tr E132))))))))))))))))))))))))))))))))).tag f0 (by decide)) (nro (by decide)) (Or.inr z134) (fun m134 em134 E134 => ?_)
  have hw := hw m134 em134
  refine x_aload_n HE 0 dX21_init_137 rfl rfl ?_
  refine x_iconst HE dX21_init_138 (by decide) ?_
  obtain ⟨v139, hw⟩ := hw
  refine x_newIN HE dX21_init_139 q1019 (by decide) v139 (fun a139 m139 ea139 em139 E139 w139 => ?_)
  have hw := hw a139 m139 ea139 em139 w139
  have t139 := alloc_tag ea139 em139
  have l139 := alloc_len ea139 em139
  obtain ⟨z141, hw⟩ := hw
  refine x_pR HE dX21_init_141 fd_X21_19 q1163 (Or.inl rfl) (Or.inr ⟨rfl, hn, rfl⟩) (nf_arr _ _) ((EB.tr (E7.tr (E9.tr (E15.tr (E17.tr (E23.tr (E25.tr (E31.tr (E33.tr (E39.tr (E41.tr (E47.tr (E49.tr (E55.tr (E57.tr (E63.tr (E65.tr (E71.tr (E73.tr (E79.tr (E81.tr (E87.tr (E89.tr (E95.tr (E97.tr (E103.tr (E105.tr (E110.tr (E113.tr (E118.tr (E120.tr (E125.tr (E127.tr (E132.tr (E134.tr E139))))))))))))))))))))))))))))))))))).tag f0 (by decide)) (nro (by decide)) (Or.inr z141) (fun m141 em141 E141 => ?_)
  have hw := hw m141 em141
  refine x_aload_n HE 0 dX21_init_144 rfl rfl ?_
  refine x_iconst HE dX21_init_145 (by decide) ?_
  obtain ⟨v146, hw⟩ := hw
  refine x_newIN HE dX21_init_146 q1019 (by decide) v146 (fun a146 m146 ea146 em146 E146 w146 => ?_)
  have hw := hw a146 m146 ea146 em146 w146
  have t146 := alloc_tag ea146 em146
  have l146 := alloc_len ea146 em146
  obtain ⟨z148, hw⟩ := hw
  refine x_pR HE dX21_init_148 fd_X21_20 q1164 (Or.inl rfl) (Or.inr ⟨rfl, hn, rfl⟩) (nf_arr _ _) ((EB.tr (E7.tr (E9.tr (E15.tr (E17.tr (E23.tr (E25.tr (E31.tr (E33.tr (E39.tr (E41.tr (E47.tr (E49.tr (E55.tr (E57.tr (E63.tr (E65.tr (E71.tr (E73.tr (E79.tr (E81.tr (E87.tr (E89.tr (E95.tr (E97.tr (E103.tr (E105.tr (E110.tr (E113.tr (E118.tr (E120.tr (E125.tr (E127.tr (E132.tr (E134.tr (E139.tr (E141.tr E146))))))))))))))))))))))))))))))))))))).tag f0 (by decide)) (nro (by decide)) (Or.inr z148) (fun m148 em148 E148 => ?_)
  have hw := hw m148 em148
  refine x_aload_n HE 0 dX21_init_151 rfl rfl ?_
  refine x_bipush HE dX21_init_152 (by decide) ?_
  obtain ⟨v154, hw⟩ := hw
  refine x_newIN HE dX21_init_154 q1019 (by decide) v154 (fun a154 m154 ea154 em154 E154 w154 => ?_)
  have hw := hw a154 m154 ea154 em154 w154
  have t154 := alloc_tag ea154 em154
  have l154 := alloc_len ea154 em154
  obtain ⟨z156, hw⟩ := hw
  refine x_pR HE dX21_init_156 fd_X21_21 q1165 (Or.inl rfl) (Or.inr ⟨rfl, hn, rfl⟩) (nf_arr _ _) ((EB.tr (E7.tr (E9.tr (E15.tr (E17.tr (E23.tr (E25.tr (E31.tr (E33.tr (E39.tr (E41.tr (E47.tr (E49.tr (E55.tr (E57.tr (E63.tr (E65.tr (E71.tr (E73.tr (E79.tr (E81.tr (E87.tr (E89.tr (E95.tr (E97.tr (E103.tr (E105.tr (E110.tr (E113.tr (E118.tr (E120.tr (E125.tr (E127.tr (E132.tr (E134.tr (E139.tr (E141.tr (E146.tr (E148.tr E154))))))))))))))))))))))))))))))))))))))).tag f0 (by decide)) (nro (by decide)) (Or.inr z156) (fun m156 em156 E156 => ?_)
  have hw := hw m156 em156
  refine x_aload_n HE 0 dX21_init_159 rfl rfl ?_
  refine x_iconst HE dX21_init_160 (by decide) ?_
  obtain ⟨v161, hw⟩ := hw
  refine x_newIN HE dX21_init_161 q1019 (by decide) v161 (fun a161 m161 ea161 em161 E161 w161 => ?_)
  have hw := hw a161 m161 ea161 em161 w161
  have t161 := alloc_tag ea161 em161
  have l161 := alloc_len ea161 em161
  obtain ⟨z163, hw⟩ := hw
  refine x_pR HE dX21_init_163 fd_X21_22 q1167 (Or.inl rfl) (Or.inr ⟨rfl, hn, rfl⟩) (nf_arr _ _) ((EB.tr (E7.tr (E9.tr (E15.tr (E17.tr (E23.tr (E25.tr (E31.tr (E33.tr (E39.tr (E41.tr (E47.tr (E49.tr (E55.tr (E57.tr (E63.tr (E65.tr (E71.tr (E73.tr (E79.tr (E81.tr (E87.tr (E89.tr (E95.tr (E97.tr (E103.tr (E105.tr (E110.tr (E113.tr (E118.tr (E120.tr (E125.tr (E127.tr (E132.tr (E134.tr (E139.tr (E141.tr (E146.tr (E148.tr (E154.tr (E156.tr E161))))))))))))))))))))))))))))))))))))))))).tag f0 (by decide)) (nro (by decide)) (Or.inr z163) (fun m163 em163 E163 => ?_)
  have hw := hw m163 em163
  refine x_aload_n HE 0 dX21_init_166 rfl rfl ?_
  refine x_aload_n HE 1 dX21_init_167 rfl rfl ?_
  obtain ⟨z168, hw⟩ := hw
  refine x_pR HE dX21_init_168 fd_X21_0 q1122 (Or.inl rfl) (Or.inr ⟨rfl, hn, rfl⟩) (nf_obj _ _) ((EB.tr (E7.tr (E9.tr (E15.tr (E17.tr (E23.tr (E25.tr (E31.tr (E33.tr (E39.tr (E41.tr (E47.tr (E49.tr (E55.tr (E57.tr (E63.tr (E65.tr (E71.tr (E73.tr (E79.tr (E81.tr (E87.tr (E89.tr (E95.tr (E97.tr (E103.tr (E105.tr (E110.tr (E113.tr (E118.tr (E120.tr (E125.tr (E127.tr (E132.tr (E134.tr (E139.tr (E141.tr (E146.tr (E148.tr (E154.tr (E156.tr (E161.tr E163)))))))))))))))))))))))))))))))))))))))))).tag f0 (by decide)) (nro (by decide)) (Or.inr z168) (fun m168 em168 E168 => ?_)
  have hw := hw m168 em168
  refine x_aload_n HE 0 dX21_init_171 rfl rfl ?_
  refine x_aload_n HE 1 dX21_init_172 rfl rfl ?_
  obtain ⟨v173, hw⟩ := hw
  refine x_gR HE dX21_init_173 fd_X7_5 q328 (Or.inl rfl) (Lay_X7.tag v173) (Lay_X7_5 v173).1 ?_
  refine x_callV HE dX21_init_176 rfl (fun l => k_J2_size ((Lay_X7_5 v173).2) l hw) (As := []) (rest := [rV x0]) rfl xc32 ((Lay_X7_5 v173).2) (lw_V q1086 q708 q709 q128 q710) hy_J2_size rfl rfl (Nat.le_of_ble_eq_true rfl) (Nat.le_of_ble_eq_true rfl) (Nat.le_of_ble_eq_true rfl) (kkI (fun r176 m176 E176 hw => ?_))
  have hw := hw E176
  refine x_pI HE dX21_init_179 fd_X21_1 q1123 (Or.inl rfl) (Or.inr ⟨rfl, hn, rfl⟩) (nf_int _) ((EB.tr (E7.tr (E9.tr (E15.tr (E17.tr (E23.tr (E25.tr (E31.tr (E33.tr (E39.tr (E41.tr (E47.tr (E49.tr (E55.tr (E57.tr (E63.tr (E65.tr (E71.tr (E73.tr (E79.tr (E81.tr (E87.tr (E89.tr (E95.tr (E97.tr (E103.tr (E105.tr (E110.tr (E113.tr (E118.tr (E120.tr (E125.tr (E127.tr (E132.tr (E134.tr (E139.tr (E141.tr (E146.tr (E148.tr (E154.tr (E156.tr (E161.tr (E163.tr (E168.tr E176)))))))))))))))))))))))))))))))))))))))))))).tag f0 (by decide)) (nro (by decide)) (Or.inl nf_X21_1) (fun m179 em179 E179 => ?_)
  have hw := hw m179 em179
  refine x_aload_n HE 0 dX21_init_182 rfl rfl ?_
  refine x_aload_n HE 1 dX21_init_183 rfl rfl ?_
  refine x_gI HE dX21_init_184 fd_X7_1 q315 (Or.inl rfl) (Lay_X7.tag (v173.ext (E176.tr E179))) rfl ?_
  refine x_pI HE dX21_init_187 fd_X21_26 q1175 (Or.inl rfl) (Or.inl rfl) (nf_int _) ((EB.tr (E7.tr (E9.tr (E15.tr (E17.tr (E23.tr (E25.tr (E31.tr (E33.tr (E39.tr (E41.tr (E47.tr (E49.tr (E55.tr (E57.tr (E63.tr (E65.tr (E71.tr (E73.tr (E79.tr (E81.tr (E87.tr (E89.tr (E95.tr (E97.tr (E103.tr (E105.tr (E110.tr (E113.tr (E118.tr (E120.tr (E125.tr (E127.tr (E132.tr (E134.tr (E139.tr (E141.tr (E146.tr (E148.tr (E154.tr (E156.tr (E161.tr (E163.tr (E168.tr (E176.tr E179))))))))))))))))))))))))))))))))))))))))))))).tag f0 (by decide)) (nro (by decide)) (Or.inl nf_X21_26) (fun m187 em187 E187 => ?_)
  have hw := hw m187 em187
  refine x_iconst HE dX21_init_190 (by decide) ?_
  refine x_istore_n HE 2 (lo' := [some (rV x0), some (rV x1), some (iV 0), none]) dX21_init_191 rfl (Nat.le_of_ble_eq_true rfl) rfl ?_
  exact wl_X21_init_192 HE hr hn f0 hw
theorem k_X21_init {G : GT} {x0 x1 : Int} {Q : Hp → Prop} {h : Hp} (f0 : hT h x0 = 13) (l : Launch) (hw : g_X21_init x0 x1 Q h) : XM G l yX21_init cX21_init 4 none 4 86 [rV x0, rV x1] (QV Q) h :=
  XM.of (by decide) (Nat.le_of_ble_eq_true rfl) (fun X HE hr hn => w_X21_init_0 HE hr hn f0 hw)
def g_X21_takes (x0 x1 : Int) (Q : Hp → Prop) (h : Hp) : Prop :=
  (Lay_X21 h x1) ∧ (((0 : Int) ≤ 0 ∧ (0 : Int) ≤ 0 ∧ (0 : Int) ≤ 10) ∧ (((0 : Int) + 10 ≤ 10) ∧ (((0 : Int) + 10 ≤ 10) ∧ (∀ m12 : Hp, m12 = putA h (x0 + 1) (cpyA (hA h (x1 + 1)) (hA h (x0 + 1)) 0 0 10) → (((0 : Int) ≤ 0 ∧ (0 : Int) ≤ 0 ∧ (0 : Int) ≤ 10) ∧ (((0 : Int) + 10 ≤ 10) ∧ (((0 : Int) + 10 ≤ 10) ∧ (∀ m27 : Hp, m27 = putA m12 (x0 + 2) (cpyA (hA m12 (x1 + 2)) (hA m12 (x0 + 2)) 0 0 10) → (((0 : Int) ≤ 0 ∧ (0 : Int) ≤ 0 ∧ (0 : Int) ≤ 10) ∧ (((0 : Int) + 10 ≤ 10) ∧ (((0 : Int) + 10 ≤ 10) ∧ (∀ m42 : Hp, m42 = putA m27 (x0 + 3) (cpyA (hA m27 (x1 + 3)) (hA m27 (x0 + 3)) 0 0 10) → (((0 : Int) ≤ 0 ∧ (0 : Int) ≤ 0 ∧ (0 : Int) ≤ 10) ∧ (((0 : Int) + 10 ≤ 10) ∧ (((0 : Int) + 10 ≤ 10) ∧ (∀ m57 : Hp, m57 = putA m42 (x0 + 4) (cpyA (hA m42 (x1 + 4)) (hA m42 (x0 + 4)) 0 0 10) → (((0 : Int) ≤ 0 ∧ (0 : Int) ≤ 0 ∧ (0 : Int) ≤ 10) ∧ (((0 : Int) + 10 ≤ 10) ∧ (((0 : Int) + 10 ≤ 10) ∧ (∀ m72 : Hp, m72 = putA m57 (x0 + 5) (cpyA (hA m57 (x1 + 5)) (hA m57 (x0 + 5)) 0 0 10) → (((0 : Int) ≤ 0 ∧ (0 : Int) ≤ 0 ∧ (0 : Int) ≤ 10) ∧ (((0 : Int) + 10 ≤ 10) ∧ (((0 : Int) + 10 ≤ 10) ∧ (∀ m87 : Hp, m87 = putA m72 (x0 + 6) (cpyA (hA m72 (x1 + 6)) (hA m72 (x0 + 6)) 0 0 10) → (((0 : Int) ≤ 0 ∧ (0 : Int) ≤ 0 ∧ (0 : Int) ≤ 10) ∧ (((0 : Int) + 10 ≤ 10) ∧ (((0 : Int) + 10 ≤ 10) ∧ (∀ m102 : Hp, m102 = putA m87 (x0 + 7) (cpyA (hA m87 (x1 + 7)) (hA m87 (x0 + 7)) 0 0 10) → (((0 : Int) ≤ 0 ∧ (0 : Int) ≤ 0 ∧ (0 : Int) ≤ 10) ∧ (((0 : Int) + 10 ≤ 10) ∧ (((0 : Int) + 10 ≤ 10) ∧ (∀ m117 : Hp, m117 = putA m102 (x0 + 8) (cpyA (hA m102 (x1 + 8)) (hA m102 (x0 + 8)) 0 0 10) → (((0 : Int) ≤ 0 ∧ (0 : Int) ≤ 0 ∧ (0 : Int) ≤ 10) ∧ (((0 : Int) + 10 ≤ 10) ∧ (((0 : Int) + 10 ≤ 10) ∧ (∀ m132 : Hp, m132 = putA m117 (x0 + 9) (cpyA (hA m117 (x1 + 9)) (hA m117 (x0 + 9)) 0 0 10) → (((0 : Int) ≤ 0 ∧ (0 : Int) ≤ 0 ∧ (0 : Int) ≤ 10) ∧ (((0 : Int) + 10 ≤ 10) ∧ (((0 : Int) + 10 ≤ 10) ∧ (∀ m147 : Hp, m147 = putA m132 (x0 + 10) (cpyA (hA m132 (x1 + 10)) (hA m132 (x0 + 10)) 0 0 10) → (((0 : Int) ≤ 0 ∧ (0 : Int) ≤ 0 ∧ (0 : Int) ≤ 10) ∧ (((0 : Int) + 10 ≤ 10) ∧ (((0 : Int) + 10 ≤ 10) ∧ (∀ m162 : Hp, m162 = putA m147 (x0 + 11) (cpyA (hA m147 (x1 + 11)) (hA m147 (x0 + 11)) 0 0 10) → (((0 : Int) ≤ 0 ∧ (0 : Int) ≤ 0 ∧ (0 : Int) ≤ 10) ∧ (((0 : Int) + 10 ≤ 10) ∧ (((0 : Int) + 10 ≤ 10) ∧ (∀ m177 : Hp, m177 = putA m162 (x0 + 12) (cpyA (hA m162 (x1 + 12)) (hA m162 (x0 + 12)) 0 0 10) → (((0 : Int) ≤ 0 ∧ (0 : Int) ≤ 0 ∧ (0 : Int) ≤ 10) ∧ (((0 : Int) + 10 ≤ 10) ∧ (((0 : Int) + 10 ≤ 10) ∧ ((∀ i : Int, 0 ≤ i → i < 0 + 10 → hA m177 (x1 + 13) i = 0 ∨ hA m177 (x1 + 13) i = 1) ∧ (∀ m192 : Hp, m192 = putA m177 (x0 + 13) (cpyA (hA m177 (x1 + 13)) (hA m177 (x0 + 13)) 0 0 10) → (((0 : Int) ≤ 0 ∧ (0 : Int) ≤ 0 ∧ (0 : Int) ≤ 4) ∧ (((0 : Int) + 4 ≤ 4) ∧ (((0 : Int) + 4 ≤ 4) ∧ ((∀ i : Int, 0 ≤ i → i < 0 + 4 → hA m192 (x1 + 14) i = 0 ∨ (6, hT m192 (hA m192 (x1 + 14) i)) ∈ xTak) ∧ (∀ m206 : Hp, m206 = putA m192 (x0 + 14) (cpyA (hA m192 (x1 + 14)) (hA m192 (x0 + 14)) 0 0 4) → (((0 : Int) ≤ 0 ∧ (0 : Int) ≤ 0 ∧ (0 : Int) ≤ 4) ∧ (((0 : Int) + 4 ≤ 4) ∧ (((0 : Int) + 4 ≤ 4) ∧ (∀ m220 : Hp, m220 = putA m206 (x0 + 15) (cpyA (hA m206 (x1 + 15)) (hA m206 (x0 + 15)) 0 0 4) → (((0 : Int) ≤ 0 ∧ (0 : Int) ≤ 0 ∧ (0 : Int) ≤ 4) ∧ (((0 : Int) + 4 ≤ 4) ∧ (((0 : Int) + 4 ≤ 4) ∧ (∀ m234 : Hp, m234 = putA m220 (x0 + 16) (cpyA (hA m220 (x1 + 16)) (hA m220 (x0 + 16)) 0 0 4) → (((0 : Int) ≤ 0 ∧ (0 : Int) ≤ 0 ∧ (0 : Int) ≤ 4) ∧ (((0 : Int) + 4 ≤ 4) ∧ (((0 : Int) + 4 ≤ 4) ∧ (∀ m248 : Hp, m248 = putA m234 (x0 + 17) (cpyA (hA m234 (x1 + 17)) (hA m234 (x0 + 17)) 0 0 4) → (((0 : Int) ≤ 0 ∧ (0 : Int) ≤ 0 ∧ (0 : Int) ≤ 4) ∧ (((0 : Int) + 4 ≤ 4) ∧ (((0 : Int) + 4 ≤ 4) ∧ (∀ m262 : Hp, m262 = putA m248 (x0 + 18) (cpyA (hA m248 (x1 + 18)) (hA m248 (x0 + 18)) 0 0 4) → (((0 : Int) ≤ 0 ∧ (0 : Int) ≤ 0 ∧ (0 : Int) ≤ 4) ∧ (((0 : Int) + 4 ≤ 4) ∧ (((0 : Int) + 4 ≤ 4) ∧ (∀ m276 : Hp, m276 = putA m262 (x0 + 19) (cpyA (hA m262 (x1 + 19)) (hA m262 (x0 + 19)) 0 0 4) → (((0 : Int) ≤ 0 ∧ (0 : Int) ≤ 0 ∧ (0 : Int) ≤ 8) ∧ (((0 : Int) + 8 ≤ 8) ∧ (((0 : Int) + 8 ≤ 8) ∧ (∀ m294 : Hp, m294 = putA m276 (x0 + 20) (cpyA (hA m276 (x1 + 20)) (hA m276 (x0 + 20)) 0 0 8) → (((0 : Int) ≤ 0 ∧ (0 : Int) ≤ 0 ∧ (0 : Int) ≤ 4) ∧ (((0 : Int) + 4 ≤ 4) ∧ (((0 : Int) + 4 ≤ 4) ∧ (∀ m308 : Hp, m308 = putA m294 (x0 + 21) (cpyA (hA m294 (x1 + 21)) (hA m294 (x0 + 21)) 0 0 4) → (∀ m316 : Hp, m316 = setF m308 x0 23 (hF m308 x1 23) → (∀ m324 : Hp, m324 = setF m316 x0 24 (hF m316 x1 24) → (∀ m332 : Hp, m332 = setF m324 x0 25 (hF m324 x1 25) → (∀ m340 : Hp, m340 = setF m332 x0 26 (hF m332 x1 26) → (Q m340)))))))))))))))))))))))))))))))))))))))))))))))))))))))))))))))))))))))))))))))))))))))))))
theorem w_X21_takes_0 {G : GT} {X : ET} {h0 : Hp} {x0 x1 : Int} (HE : XE G X cX21_takes 2 RX21 1 60 h0) (hr : XR X none) (f0 : Lay_X21 h0 x0) {Q : Hp → Prop} {h : Hp} (hw : g_X21_takes x0 x1 Q h) : Wx G X h0 (QV Q) h 0 [some (rV x0), some (rV x1)] [] := by
  refine Wx.start (fun EB => ?_)
  unfold g_X21_takes at hw
  refine x_aload_n HE 1 dX21_takes_0 rfl rfl ?_
  obtain ⟨v1, hw⟩ := hw
  refine x_gR HE dX21_takes_1 fd_X21_2 q1124 (Or.inl rfl) (Lay_X21.tag v1) (Lay_X21_2 v1).1 ?_
  refine x_iconst HE dX21_takes_4 (by decide) ?_
  refine x_aload_n HE 0 dX21_takes_5 rfl rfl ?_
  refine x_gR HE dX21_takes_6 fd_X21_2 q1124 (Or.inl rfl) (Lay_X21.tag (f0.ext EB)) (Lay_X21_2 (f0.ext EB)).1 ?_
  refine x_iconst HE dX21_takes_9 (by decide) ?_
  refine x_bipush HE dX21_takes_10 (by decide) ?_
  obtain ⟨p12, hw⟩ := hw
  obtain ⟨q12, hw⟩ := hw
  obtain ⟨r12, hw⟩ := hw
  refine x_cpy (t := 1) (ty := .int) HE dX21_takes_12 rfl q1243 q456 q455 q141 (by simp [xAr]) (by unfold roT; omega) ((Lay_X21_2 v1).2.1) ((Lay_X21_2 (f0.ext EB)).2.1) p12 (by rw [(Lay_X21_2 v1).2.2]; exact q12) (by rw [(Lay_X21_2 (f0.ext EB)).2.2]; exact r12) (fun i _ _ => ⟨rfl, (fun e => by cases e), by decide⟩) (Nat.le_of_ble_eq_true rfl) (Nat.le_of_ble_eq_true rfl) (by decide +kernel) (fun m12 em12 E12 => ?_)
  have hw := hw m12 em12
  refine x_aload_n HE 1 dX21_takes_15 rfl rfl ?_
  refine x_gR HE dX21_takes_16 fd_X21_3 q1126 (Or.inl rfl) (Lay_X21.tag (v1.ext E12)) (Lay_X21_3 (v1.ext E12)).1 ?_
  refine x_iconst HE dX21_takes_19 (by decide) ?_
  refine x_aload_n HE 0 dX21_takes_20 rfl rfl ?_
  refine x_gR HE dX21_takes_21 fd_X21_3 q1126 (Or.inl rfl) (Lay_X21.tag (f0.ext (EB.tr E12))) (Lay_X21_3 (f0.ext (EB.tr E12))).1 ?_
  refine x_iconst HE dX21_takes_24 (by decide) ?_
  refine x_bipush HE dX21_takes_25 (by decide) ?_
  obtain ⟨p27, hw⟩ := hw
  obtain ⟨q27, hw⟩ := hw
  obtain ⟨r27, hw⟩ := hw
  refine x_cpy (t := 1) (ty := .int) HE dX21_takes_27 rfl q1243 q456 q455 q141 (by simp [xAr]) (by unfold roT; omega) ((Lay_X21_3 (v1.ext E12)).2.1) ((Lay_X21_3 (f0.ext (EB.tr E12))).2.1) p27 (by rw [(Lay_X21_3 (v1.ext E12)).2.2]; exact q27) (by rw [(Lay_X21_3 (f0.ext (EB.tr E12))).2.2]; exact r27) (fun i _ _ => ⟨rfl, (fun e => by cases e), by decide⟩) (Nat.le_of_ble_eq_true rfl) (Nat.le_of_ble_eq_true rfl) (by decide +kernel) (fun m27 em27 E27 => ?_)
  have hw := hw m27 em27
  refine x_aload_n HE 1 dX21_takes_30 rfl rfl ?_
  refine x_gR HE dX21_takes_31 fd_X21_4 q1130 (Or.inl rfl) (Lay_X21.tag (v1.ext (E12.tr E27))) (Lay_X21_4 (v1.ext (E12.tr E27))).1 ?_
  refine x_iconst HE dX21_takes_34 (by decide) ?_
  refine x_aload_n HE 0 dX21_takes_35 rfl rfl ?_
  refine x_gR HE dX21_takes_36 fd_X21_4 q1130 (Or.inl rfl) (Lay_X21.tag (f0.ext (EB.tr (E12.tr E27)))) (Lay_X21_4 (f0.ext (EB.tr (E12.tr E27)))).1 ?_
  refine x_iconst HE dX21_takes_39 (by decide) ?_
  refine x_bipush HE dX21_takes_40 (by decide) ?_
  obtain ⟨p42, hw⟩ := hw
  obtain ⟨q42, hw⟩ := hw
  obtain ⟨r42, hw⟩ := hw
  refine x_cpy (t := 1) (ty := .int) HE dX21_takes_42 rfl q1243 q456 q455 q141 (by simp [xAr]) (by unfold roT; omega) ((Lay_X21_4 (v1.ext (E12.tr E27))).2.1) ((Lay_X21_4 (f0.ext (EB.tr (E12.tr E27)))).2.1) p42 (by rw [(Lay_X21_4 (v1.ext (E12.tr E27))).2.2]; exact q42) (by rw [(Lay_X21_4 (f0.ext (EB.tr (E12.tr E27)))).2.2]; exact r42) (fun i _ _ => ⟨rfl, (fun e => by cases e), by decide⟩) (Nat.le_of_ble_eq_true rfl) (Nat.le_of_ble_eq_true rfl) (by decide +kernel) (fun m42 em42 E42 => ?_)
  have hw := hw m42 em42
  refine x_aload_n HE 1 dX21_takes_45 rfl rfl ?_
  refine x_gR HE dX21_takes_46 fd_X21_5 q1133 (Or.inl rfl) (Lay_X21.tag (v1.ext (E12.tr (E27.tr E42)))) (Lay_X21_5 (v1.ext (E12.tr (E27.tr E42)))).1 ?_
  refine x_iconst HE dX21_takes_49 (by decide) ?_
  refine x_aload_n HE 0 dX21_takes_50 rfl rfl ?_
  refine x_gR HE dX21_takes_51 fd_X21_5 q1133 (Or.inl rfl) (Lay_X21.tag (f0.ext (EB.tr (E12.tr (E27.tr E42))))) (Lay_X21_5 (f0.ext (EB.tr (E12.tr (E27.tr E42))))).1 ?_
  refine x_iconst HE dX21_takes_54 (by decide) ?_
  refine x_bipush HE dX21_takes_55 (by decide) ?_
  obtain ⟨p57, hw⟩ := hw
  obtain ⟨q57, hw⟩ := hw
  obtain ⟨r57, hw⟩ := hw
  refine x_cpy (t := 1) (ty := .int) HE dX21_takes_57 rfl q1243 q456 q455 q141 (by simp [xAr]) (by unfold roT; omega) ((Lay_X21_5 (v1.ext (E12.tr (E27.tr E42)))).2.1) ((Lay_X21_5 (f0.ext (EB.tr (E12.tr (E27.tr E42))))).2.1) p57 (by rw [(Lay_X21_5 (v1.ext (E12.tr (E27.tr E42)))).2.2]; exact q57) (by rw [(Lay_X21_5 (f0.ext (EB.tr (E12.tr (E27.tr E42))))).2.2]; exact r57) (fun i _ _ => ⟨rfl, (fun e => by cases e), by decide⟩) (Nat.le_of_ble_eq_true rfl) (Nat.le_of_ble_eq_true rfl) (by decide +kernel) (fun m57 em57 E57 => ?_)
  have hw := hw m57 em57
  refine x_aload_n HE 1 dX21_takes_60 rfl rfl ?_
  refine x_gR HE dX21_takes_61 fd_X21_6 q1136 (Or.inl rfl) (Lay_X21.tag (v1.ext (E12.tr (E27.tr (E42.tr E57))))) (Lay_X21_6 (v1.ext (E12.tr (E27.tr (E42.tr E57))))).1 ?_
  refine x_iconst HE dX21_takes_64 (by decide) ?_
  refine x_aload_n HE 0 dX21_takes_65 rfl rfl ?_
  refine x_gR HE dX21_takes_66 fd_X21_6 q1136 (Or.inl rfl) (Lay_X21.tag (f0.ext (EB.tr (E12.tr (E27.tr (E42.tr E57)))))) (Lay_X21_6 (f0.ext (EB.tr (E12.tr (E27.tr (E42.tr E57)))))).1 ?_
  refine x_iconst HE dX21_takes_69 (by decide) ?_
  refine x_bipush HE dX21_takes_70 (by decide) ?_
  obtain ⟨p72, hw⟩ := hw
  obtain ⟨q72, hw⟩ := hw
  obtain ⟨r72, hw⟩ := hw
  refine x_cpy (t := 1) (ty := .int) HE dX21_takes_72 rfl q1243 q456 q455 q141 (by simp [xAr]) (by unfold roT; omega) ((Lay_X21_6 (v1.ext (E12.tr (E27.tr (E42.tr E57))))).2.1) ((Lay_X21_6 (f0.ext (EB.tr (E12.tr (E27.tr (E42.tr E57)))))).2.1) p72 (by rw [(Lay_X21_6 (v1.ext (E12.tr (E27.tr (E42.tr E57))))).2.2]; exact q72) (by rw [(Lay_X21_6 (f0.ext (EB.tr (E12.tr (E27.tr (E42.tr E57)))))).2.2]; exact r72) (fun i _ _ => ⟨rfl, (fun e => by cases e), by decide⟩) (Nat.le_of_ble_eq_true rfl) (Nat.le_of_ble_eq_true rfl) (by decide +kernel) (fun m72 em72 E72 => ?_)
  have hw := hw m72 em72
  refine x_aload_n HE 1 dX21_takes_75 rfl rfl ?_
  refine x_gR HE dX21_takes_76 fd_X21_7 q1138 (Or.inl rfl) (Lay_X21.tag (v1.ext (E12.tr (E27.tr (E42.tr (E57.tr E72)))))) (Lay_X21_7 (v1.ext (E12.tr (E27.tr (E42.tr (E57.tr E72)))))).1 ?_
  refine x_iconst HE dX21_takes_79 (by decide) ?_
  refine x_aload_n HE 0 dX21_takes_80 rfl rfl ?_
  refine x_gR HE dX21_takes_81 fd_X21_7 q1138 (Or.inl rfl) (Lay_X21.tag (f0.ext (EB.tr (E12.tr (E27.tr (E42.tr (E57.tr E72))))))) (Lay_X21_7 (f0.ext (EB.tr (E12.tr (E27.tr (E42.tr (E57.tr E72))))))).1 ?_
  refine x_iconst HE dX21_takes_84 (by decide) ?_
  refine x_bipush HE dX21_takes_85 (by decide) ?_
  obtain ⟨p87, hw⟩ := hw
  obtain ⟨q87, hw⟩ := hw
  obtain ⟨r87, hw⟩ := hw
  refine x_cpy (t := 1) (ty := .int) HE dX21_takes_87 rfl q1243 q456 q455 q141 (by simp [xAr]) (by unfold roT; omega) ((Lay_X21_7 (v1.ext (E12.tr (E27.tr (E42.tr (E57.tr E72)))))).2.1) ((Lay_X21_7 (f0.ext (EB.tr (E12.tr (E27.tr (E42.tr (E57.tr E72))))))).2.1) p87 (by rw [(Lay_X21_7 (v1.ext (E12.tr (E27.tr (E42.tr (E57.tr E72)))))).2.2]; exact q87) (by rw [(Lay_X21_7 (f0.ext (EB.tr (E12.tr (E27.tr (E42.tr (E57.tr E72))))))).2.2]; exact r87) (fun i _ _ => ⟨rfl, (fun e => by cases e), by decide⟩) (Nat.le_of_ble_eq_true rfl) (Nat.le_of_ble_eq_true rfl) (by decide +kernel) (fun m87 em87 E87 => ?_)
  have hw := hw m87 em87
  refine x_aload_n HE 1 dX21_takes_90 rfl rfl ?_
  refine x_gR HE dX21_takes_91 fd_X21_8 q1140 (Or.inl rfl) (Lay_X21.tag (v1.ext (E12.tr (E27.tr (E42.tr (E57.tr (E72.tr E87))))))) (Lay_X21_8 (v1.ext (E12.tr (E27.tr (E42.tr (E57.tr (E72.tr E87))))))).1 ?_
  refine x_iconst HE dX21_takes_94 (by decide) ?_
  refine x_aload_n HE 0 dX21_takes_95 rfl rfl ?_
  refine x_gR HE dX21_takes_96 fd_X21_8 q1140 (Or.inl rfl) (Lay_X21.tag (f0.ext (EB.tr (E12.tr (E27.tr (E42.tr (E57.tr (E72.tr E87)))))))) (Lay_X21_8 (f0.ext (EB.tr (E12.tr (E27.tr (E42.tr (E57.tr (E72.tr E87)))))))).1 ?_
  refine x_iconst HE dX21_takes_99 (by decide) ?_
  refine x_bipush HE dX21_takes_100 (by decide) ?_
  obtain ⟨p102, hw⟩ := hw
  obtain ⟨q102, hw⟩ := hw
  obtain ⟨r102, hw⟩ := hw
  refine x_cpy (t := 1) (ty := .int) HE dX21_takes_102 rfl q1243 q456 q455 q141 (by simp [xAr]) (by unfold roT; omega) ((Lay_X21_8 (v1.ext (E12.tr (E27.tr (E42.tr (E57.tr (E72.tr E87))))))).2.1) ((Lay_X21_8 (f0.ext (EB.tr (E12.tr (E27.tr (E42.tr (E57.tr (E72.tr E87)))))))).2.1) p102 (by rw [(Lay_X21_8 (v1.ext (E12.tr (E27.tr (E42.tr (E57.tr (E72.tr E87))))))).2.2]; exact q102) (by rw [(Lay_X21_8 (f0.ext (EB.tr (E12.tr (E27.tr (E42.tr (E57.tr (E72.tr E87)))))))).2.2]; exact r102) (fun i _ _ => ⟨rfl, (fun e => by cases e), by decide⟩) (Nat.le_of_ble_eq_true rfl) (Nat.le_of_ble_eq_true rfl) (by decide +kernel) (fun m102 em102 E102 => ?_)
  have hw := hw m102 em102
  refine x_aload_n HE 1 dX21_takes_105 rfl rfl ?_
  refine x_gR HE dX21_takes_106 fd_X21_9 q1142 (Or.inl rfl) (Lay_X21.tag (v1.ext (E12.tr (E27.tr (E42.tr (E57.tr (E72.tr (E87.tr E102)))))))) (Lay_X21_9 (v1.ext (E12.tr (E27.tr (E42.tr (E57.tr (E72.tr (E87.tr E102)))))))).1 ?_
  refine x_iconst HE dX21_takes_109 (by decide) ?_
  refine x_aload_n HE 0 dX21_takes_110 rfl rfl ?_
  refine x_gR HE dX21_takes_111 fd_X21_9 q1142 (Or.inl rfl) (Lay_X21.tag (f0.ext (EB.tr (E12.tr (E27.tr (E42.tr (E57.tr (E72.tr (E87.tr E102))))))))) (Lay_X21_9 (f0.ext (EB.tr (E12.tr (E27.tr (E42.tr (E57.tr (E72.tr (E87.tr E102))))))))).1 ?_
  refine x_iconst HE dX21_takes_114 (by decide) ?_
  refine x_bipush HE dX21_takes_115 (by decide) ?_
  obtain ⟨p117, hw⟩ := hw
  obtain ⟨q117, hw⟩ := hw
  obtain ⟨r117, hw⟩ := hw
  refine x_cpy (t := 1) (ty := .int) HE dX21_takes_117 rfl q1243 q456 q455 q141 (by simp [xAr]) (by unfold roT; omega) ((Lay_X21_9 (v1.ext (E12.tr (E27.tr (E42.tr (E57.tr (E72.tr (E87.tr E102)))))))).2.1) ((Lay_X21_9 (f0.ext (EB.tr (E12.tr (E27.tr (E42.tr (E57.tr (E72.tr (E87.tr E102))))))))).2.1) p117 (by rw [(Lay_X21_9 (v1.ext (E12.tr (E27.tr (E42.tr (E57.tr (E72.tr (E87.tr E102)))))))).2.2]; exact q117) (by rw [(Lay_X21_9 (f0.ext (EB.tr (E12.tr (E27.tr (E42.tr (E57.tr (E72.tr (E87.tr E102))))))))).2.2]; exact r117) (fun i _ _ => ⟨rfl, (fun e => by cases e), by decide⟩) (Nat.le_of_ble_eq_true rfl) (Nat.le_of_ble_eq_true rfl) (by decide +kernel) (fun m117 em117 E117 => ?_)
  have hw := hw m117 em117
  refine x_aload_n HE 1 dX21_takes_120 rfl rfl ?_
  refine x_gR HE dX21_takes_121 fd_X21_10 q1144 (Or.inl rfl) (Lay_X21.tag (v1.ext (E12.tr (E27.tr (E42.tr (E57.tr (E72.tr (E87.tr (E102.tr E117))))))))) (Lay_X21_10 (v1.ext (E12.tr (E27.tr (E42.tr (E57.tr (E72.tr (E87.tr (E102.tr E117))))))))).1 ?_
  refine x_iconst HE dX21_takes_124 (by decide) ?_
  refine x_aload_n HE 0 dX21_takes_125 rfl rfl ?_
  refine x_gR HE dX21_takes_126 fd_X21_10 q1144 (Or.inl rfl) (Lay_X21.tag (f0.ext (EB.tr (E12.tr (E27.tr (E42.tr (E57.tr (E72.tr (E87.tr (E102.tr E117)))))))))) (Lay_X21_10 (f0.ext (EB.tr (E12.tr (E27.tr (E42.tr (E57.tr (E72.tr (E87.tr (E102.tr E117)))))))))).1 ?_
  refine x_iconst HE dX21_takes_129 (by decide) ?_
  refine x_bipush HE dX21_takes_130 (by decide) ?_
  obtain ⟨p132, hw⟩ := hw
  obtain ⟨q132, hw⟩ := hw
  obtain ⟨r132, hw⟩ := hw
  refine x_cpy (t := 1) (ty := .int) HE dX21_takes_132 rfl q1243 q456 q455 q141 (by simp [xAr]) (by unfold roT; omega) ((Lay_X21_10 (v1.ext (E12.tr (E27.tr (E42.tr (E57.tr (E72.tr (E87.tr (E102.tr E117))))))))).2.1) ((Lay_X21_10 (f0.ext (EB.tr (E12.tr (E27.tr (E42.tr (E57.tr (E72.tr (E87.tr (E102.tr E117)))))))))).2.1) p132 (by rw [(Lay_X21_10 (v1.ext (E12.tr (E27.tr (E42.tr (E57.tr (E72.tr (E87.tr (E102.tr E117))))))))).2.2]; exact q132) (by rw [(Lay_X21_10 (f0.ext (EB.tr (E12.tr (E27.tr (E42.tr (E57.tr (E72.tr (E87.tr (E102.tr E117)))))))))).2.2]; exact r132) (fun i _ _ => ⟨rfl, (fun e => by cases e), by decide⟩) (Nat.le_of_ble_eq_true rfl) (Nat.le_of_ble_eq_true rfl) (by decide +kernel) (fun m132 em132 E132 => ?_)
  have hw := hw m132 em132
  refine x_aload_n HE 1 dX21_takes_135 rfl rfl ?_
  refine x_gR HE dX21_takes_136 fd_X21_11 q1145 (Or.inl rfl) (Lay_X21.tag (v1.ext (E12.tr (E27.tr (E42.tr (E57.tr (E72.tr (E87.tr (E102.tr (E117.tr E132)))))))))) (Lay_X21_11 (v1.ext (E12.tr (E27.tr (E42.tr (E57.tr (E72.tr (E87.tr (E102.tr (E117.tr E132)))))))))).1 ?_
  refine x_iconst HE dX21_takes_139 (by decide) ?_
  refine x_aload_n HE 0 dX21_takes_140 rfl rfl ?_
  refine x_gR HE dX21_takes_141 fd_X21_11 q1145 (Or.inl rfl) (Lay_X21.tag (f0.ext (EB.tr (E12.tr (E27.tr (E42.tr (E57.tr (E72.tr (E87.tr (E102.tr (E117.tr E132))))))))))) (Lay_X21_11 (f0.ext (EB.tr (E12.tr (E27.tr (E42.tr (E57.tr (E72.tr (E87.tr (E102.tr (E117.tr E132))))))))))).1 ?_
  refine x_iconst HE dX21_takes_144 (by decide) ?_
  refine x_bipush HE dX21_takes_145 (by decide) ?_
  obtain ⟨p147, hw⟩ := hw
  obtain ⟨q147, hw⟩ := hw
  obtain ⟨r147, hw⟩ := hw
  refine x_cpy (t := 1) (ty := .int) HE dX21_takes_147 rfl q1243 q456 q455 q141 (by simp [xAr]) (by unfold roT; omega) ((Lay_X21_11 (v1.ext (E12.tr (E27.tr (E42.tr (E57.tr (E72.tr (E87.tr (E102.tr (E117.tr E132)))))))))).2.1) ((Lay_X21_11 (f0.ext (EB.tr (E12.tr (E27.tr (E42.tr (E57.tr (E72.tr (E87.tr (E102.tr (E117.tr E132))))))))))).2.1) p147 (by rw [(Lay_X21_11 (v1.ext (E12.tr (E27.tr (E42.tr (E57.tr (E72.tr (E87.tr (E102.tr (E117.tr E132)))))))))).2.2]; exact q147) (by rw [(Lay_X21_11 (f0.ext (EB.tr (E12.tr (E27.tr (E42.tr (E57.tr (E72.tr (E87.tr (E102.tr (E117.tr E132))))))))))).2.2]; exact r147) (fun i _ _ => ⟨rfl, (fun e => by cases e), by decide⟩) (Nat.le_of_ble_eq_true rfl) (Nat.le_of_ble_eq_true rfl) (by decide +kernel) (fun m147 em147 E147 => ?_)
  have hw := hw m147 em147
  refine x_aload_n HE 1 dX21_takes_150 rfl rfl ?_
  refine x_gR HE dX21_takes_151 fd_X21_12 q1147 (Or.inl rfl) (Lay_X21.tag (v1.ext (E12.tr (E27.tr (E42.tr (E57.tr (E72.tr (E87.tr (E102.tr (E117.tr (E132.tr E147))))))))))) (Lay_X21_12 (v1.ext (E12.tr (E27.tr (E42.tr (E57.tr (E72.tr (E87.tr (E102.tr (E117.tr (E132.tr E147))))))))))).1 ?_
  refine x_iconst HE dX21_takes_154 (by decide) ?_
  refine x_aload_n HE 0 dX21_takes_155 rfl rfl ?_
  refine x_gR HE dX21_takes_156 fd_X21_12 q1147 (Or.inl rfl) (Lay_X21.tag (f0.ext (EB.tr (E12.tr (E27.tr (E42.tr (E57.tr (E72.tr (E87.tr (E102.tr (E117.tr (E132.tr E147)))))))))))) (Lay_X21_12 (f0.ext (EB.tr (E12.tr (E27.tr (E42.tr (E57.tr (E72.tr (E87.tr (E102.tr (E117.tr (E132.tr E147)))))))))))).1 ?_
  refine x_iconst HE dX21_takes_159 (by decide) ?_
  refine x_bipush HE dX21_takes_160 (by decide) ?_
  obtain ⟨p162, hw⟩ := hw
  obtain ⟨q162, hw⟩ := hw
  obtain ⟨r162, hw⟩ := hw
  refine x_cpy (t := 1) (ty := .int) HE dX21_takes_162 rfl q1243 q456 q455 q141 (by simp [xAr]) (by unfold roT; omega) ((Lay_X21_12 (v1.ext (E12.tr (E27.tr (E42.tr (E57.tr (E72.tr (E87.tr (E102.tr (E117.tr (E132.tr E147))))))))))).2.1) ((Lay_X21_12 (f0.ext (EB.tr (E12.tr (E27.tr (E42.tr (E57.tr (E72.tr (E87.tr (E102.tr (E117.tr (E132.tr E147)))))))))))).2.1) p162 (by rw [(Lay_X21_12 (v1.ext (E12.tr (E27.tr (E42.tr (E57.tr (E72.tr (E87.tr (E102.tr (E117.tr (E132.tr E147))))))))))).2.2]; exact q162) (by rw [(Lay_X21_12 (f0.ext (EB.tr (E12.tr (E27.tr (E42.tr (E57.tr (E72.tr (E87.tr (E102.tr (E117.tr (E132.tr E147)))))))))))).2.2]; exact r162) (fun i _ _ => ⟨rfl, (fun e => by cases e), by decide⟩) (Nat.le_of_ble_eq_true rfl) (Nat.le_of_ble_eq_true rfl) (by decide +kernel) (fun m162 em162 E162 => ?_)
  have hw := hw m162 em162
  refine x_aload_n HE 1 dX21_takes_165 rfl rfl ?_
  refine x_gR HE dX21_takes_166 fd_X21_13 q1149 (Or.inl rfl) (Lay_X21.tag (v1.ext (E12.tr (E27.tr (E42.tr (E57.tr (E72.tr (E87.tr (E102.tr (E117.tr (E132.tr (E147.tr E162)))))))))))) (Lay_X21_13 (v1.ext (E12.tr (E27.tr (E42.tr (E57.tr (E72.tr (E87.tr (E102.tr (E117.tr (E132.tr (E147.tr E162)))))))))))).1 ?_
  refine x_iconst HE dX21_takes_169 (by decide) ?_
  refine x_aload_n HE 0 dX21_takes_170 rfl rfl ?_
  refine x_gR HE dX21_takes_171 fd_X21_13 q1149 (Or.inl rfl) (Lay_X21.tag (f0.ext (EB.tr (E12.tr (E27.tr (E42.tr (E57.tr (E72.tr (E87.tr (E102.tr (E117.tr (E132.tr (E147.tr E162))))))))))))) (Lay_X21_13 (f0.ext (EB.tr (E12.tr (E27.tr (E42.tr (E57.tr (E72.tr (E87.tr (E102.tr (E117.tr (E132.tr (E147.tr E162))))))))))))).1 ?_
  refine x_iconst HE dX21_takes_174 (by decide) ?_
  refine x_bipush HE dX21_takes_175 (by decide) ?_
  obtain ⟨p177, hw⟩ := hw
  obtain ⟨q177, hw⟩ := hw
  obtain ⟨r177, hw⟩ := hw
  refine x_cpy (t := 1) (ty := .int) HE dX21_takes_177 rfl q1243 q456 q455 q141 (by simp [xAr]) (by unfold roT; omega) ((Lay_X21_13 (v1.ext (E12.tr (E27.tr (E42.tr (E57.tr (E72.tr (E87.tr (E102.tr (E117.tr (E132.tr (E147.tr E162)))))))))))).2.1) ((Lay_X21_13 (f0.ext (EB.tr (E12.tr (E27.tr (E42.tr (E57.tr (E72.tr (E87.tr (E102.tr (E117.tr (E132.tr (E147.tr E162))))))))))))).2.1) p177 (by rw [(Lay_X21_13 (v1.ext (E12.tr (E27.tr (E42.tr (E57.tr (E72.tr (E87.tr (E102.tr (E117.tr (E132.tr (E147.tr E162)))))))))))).2.2]; exact q177) (by rw [(Lay_X21_13 (f0.ext (EB.tr (E12.tr (E27.tr (E42.tr (E57.tr (E72.tr (E87.tr (E102.tr (E117.tr (E132.tr (E147.tr E162))))))))))))).2.2]; exact r177) (fun i _ _ => ⟨rfl, (fun e => by cases e), by decide⟩) (Nat.le_of_ble_eq_true rfl) (Nat.le_of_ble_eq_true rfl) (by decide +kernel) (fun m177 em177 E177 => ?_)
  have hw := hw m177 em177
  refine x_aload_n HE 1 dX21_takes_180 rfl rfl ?_
  refine x_gR HE dX21_takes_181 fd_X21_14 q1151 (Or.inl rfl) (Lay_X21.tag (v1.ext (E12.tr (E27.tr (E42.tr (E57.tr (E72.tr (E87.tr (E102.tr (E117.tr (E132.tr (E147.tr (E162.tr E177))))))))))))) (Lay_X21_14 (v1.ext (E12.tr (E27.tr (E42.tr (E57.tr (E72.tr (E87.tr (E102.tr (E117.tr (E132.tr (E147.tr (E162.tr E177))))))))))))).1 ?_
  refine x_iconst HE dX21_takes_184 (by decide) ?_
  refine x_aload_n HE 0 dX21_takes_185 rfl rfl ?_
  refine x_gR HE dX21_takes_186 fd_X21_14 q1151 (Or.inl rfl) (Lay_X21.tag (f0.ext (EB.tr (E12.tr (E27.tr (E42.tr (E57.tr (E72.tr (E87.tr (E102.tr (E117.tr (E132.tr (E147.tr (E162.tr E177)))))))))))))) (Lay_X21_14 (f0.ext (EB.tr (E12.tr (E27.tr (E42.tr (E57.tr (E72.tr (E87.tr (E102.tr (E117.tr (E132.tr (E147.tr (E162.tr E177)))))))))))))).1 ?_
  refine x_iconst HE dX21_takes_189 (by decide) ?_
  refine x_bipush HE dX21_takes_190 (by decide) ?_
  obtain ⟨p192, hw⟩ := hw
  obtain ⟨q192, hw⟩ := hw
  obtain ⟨r192, hw⟩ := hw
  obtain ⟨s192, hw⟩ := hw
  refine x_cpy (t := 3) (ty := .boolean) HE dX21_takes_192 rfl q1243 q456 q455 q141 (by simp [xAr]) (by unfold roT; omega) ((Lay_X21_14 (v1.ext (E12.tr (E27.tr (E42.tr (E57.tr (E72.tr (E87.tr (E102.tr (E117.tr (E132.tr (E147.tr (E162.tr E177))))))))))))).2.1) ((Lay_X21_14 (f0.ext (EB.tr (E12.tr (E27.tr (E42.tr (E57.tr (E72.tr (E87.tr (E102.tr (E117.tr (E132.tr (E147.tr (E162.tr E177)))))))))))))).2.1) p192 (by rw [(Lay_X21_14 (v1.ext (E12.tr (E27.tr (E42.tr (E57.tr (E72.tr (E87.tr (E102.tr (E117.tr (E132.tr (E147.tr (E162.tr E177))))))))))))).2.2]; exact q192) (by rw [(Lay_X21_14 (f0.ext (EB.tr (E12.tr (E27.tr (E42.tr (E57.tr (E72.tr (E87.tr (E102.tr (E117.tr (E132.tr (E147.tr (E162.tr E177)))))))))))))).2.2]; exact r192) (fun i i1 i2 => ⟨(nf_bool (s192 i i1 i2)).2, (fun e => by cases e), by decide⟩) (Nat.le_of_ble_eq_true rfl) (Nat.le_of_ble_eq_true rfl) (by decide +kernel) (fun m192 em192 E192 => ?_)
  have hw := hw m192 em192
  refine x_aload_n HE 1 dX21_takes_195 rfl rfl ?_
  refine x_gR HE dX21_takes_196 fd_X21_15 q1153 (Or.inl rfl) (Lay_X21.tag (v1.ext (E12.tr (E27.tr (E42.tr (E57.tr (E72.tr (E87.tr (E102.tr (E117.tr (E132.tr (E147.tr (E162.tr (E177.tr E192)))))))))))))) (Lay_X21_15 (v1.ext (E12.tr (E27.tr (E42.tr (E57.tr (E72.tr (E87.tr (E102.tr (E117.tr (E132.tr (E147.tr (E162.tr (E177.tr E192)))))))))))))).1 ?_
  refine x_iconst HE dX21_takes_199 (by decide) ?_
  refine x_aload_n HE 0 dX21_takes_200 rfl rfl ?_
  refine x_gR HE dX21_takes_201 fd_X21_15 q1153 (Or.inl rfl) (Lay_X21.tag (f0.ext (EB.tr (E12.tr (E27.tr (E42.tr (E57.tr (E72.tr (E87.tr (E102.tr (E117.tr (E132.tr (E147.tr (E162.tr (E177.tr E192))))))))))))))) (Lay_X21_15 (f0.ext (EB.tr (E12.tr (E27.tr (E42.tr (E57.tr (E72.tr (E87.tr (E102.tr (E117.tr (E132.tr (E147.tr (E162.tr (E177.tr E192))))))))))))))).1 ?_
  refine x_iconst HE dX21_takes_204 (by decide) ?_
  refine x_iconst HE dX21_takes_205 (by decide) ?_
  obtain ⟨p206, hw⟩ := hw
  obtain ⟨q206, hw⟩ := hw
  obtain ⟨r206, hw⟩ := hw
  obtain ⟨s206, hw⟩ := hw
  refine x_cpy (t := 6) (ty := .object "NextAtBar$Rule") HE dX21_takes_206 rfl q1243 q456 q455 q141 (by simp [xAr]) (by unfold roT; omega) ((Lay_X21_15 (v1.ext (E12.tr (E27.tr (E42.tr (E57.tr (E72.tr (E87.tr (E102.tr (E117.tr (E132.tr (E147.tr (E162.tr (E177.tr E192)))))))))))))).2.1) ((Lay_X21_15 (f0.ext (EB.tr (E12.tr (E27.tr (E42.tr (E57.tr (E72.tr (E87.tr (E102.tr (E117.tr (E132.tr (E147.tr (E162.tr (E177.tr E192))))))))))))))).2.1) p206 (by rw [(Lay_X21_15 (v1.ext (E12.tr (E27.tr (E42.tr (E57.tr (E72.tr (E87.tr (E102.tr (E117.tr (E132.tr (E147.tr (E162.tr (E177.tr E192)))))))))))))).2.2]; exact q206) (by rw [(Lay_X21_15 (f0.ext (EB.tr (E12.tr (E27.tr (E42.tr (E57.tr (E72.tr (E87.tr (E102.tr (E117.tr (E132.tr (E147.tr (E162.tr (E177.tr E192))))))))))))))).2.2]; exact r206) (fun i i1 i2 => ⟨(nf_obj "NextAtBar$Rule" _).2, (fun _ => (s206 i i1 i2).imp id (fun z => ⟨_, rfl, z⟩)), by decide⟩) (Nat.le_of_ble_eq_true rfl) (Nat.le_of_ble_eq_true rfl) (by decide +kernel) (fun m206 em206 E206 => ?_)
  have hw := hw m206 em206
  refine x_aload_n HE 1 dX21_takes_209 rfl rfl ?_
  refine x_gR HE dX21_takes_210 fd_X21_16 q1155 (Or.inl rfl) (Lay_X21.tag (v1.ext (E12.tr (E27.tr (E42.tr (E57.tr (E72.tr (E87.tr (E102.tr (E117.tr (E132.tr (E147.tr (E162.tr (E177.tr (E192.tr E206))))))))))))))) (Lay_X21_16 (v1.ext (E12.tr (E27.tr (E42.tr (E57.tr (E72.tr (E87.tr (E102.tr (E117.tr (E132.tr (E147.tr (E162.tr (E177.tr (E192.tr E206))))))))))))))).1 ?_
  refine x_iconst HE dX21_takes_213 (by decide) ?_
  refine x_aload_n HE 0 dX21_takes_214 rfl rfl ?_
  refine x_gR HE dX21_takes_215 fd_X21_16 q1155 (Or.inl rfl) (Lay_X21.tag (f0.ext (EB.tr (E12.tr (E27.tr (E42.tr (E57.tr (E72.tr (E87.tr (E102.tr (E117.tr (E132.tr (E147.tr (E162.tr (E177.tr (E192.tr E206)))))))))))))))) (Lay_X21_16 (f0.ext (EB.tr (E12.tr (E27.tr (E42.tr (E57.tr (E72.tr (E87.tr (E102.tr (E117.tr (E132.tr (E147.tr (E162.tr (E177.tr (E192.tr E206)))))))))))))))).1 ?_
  refine x_iconst HE dX21_takes_218 (by decide) ?_
  refine x_iconst HE dX21_takes_219 (by decide) ?_
  obtain ⟨p220, hw⟩ := hw
  obtain ⟨q220, hw⟩ := hw
  obtain ⟨r220, hw⟩ := hw
  refine x_cpy (t := 1) (ty := .int) HE dX21_takes_220 rfl q1243 q456 q455 q141 (by simp [xAr]) (by unfold roT; omega) ((Lay_X21_16 (v1.ext (E12.tr (E27.tr (E42.tr (E57.tr (E72.tr (E87.tr (E102.tr (E117.tr (E132.tr (E147.tr (E162.tr (E177.tr (E192.tr E206))))))))))))))).2.1) ((Lay_X21_16 (f0.ext (EB.tr (E12.tr (E27.tr (E42.tr (E57.tr (E72.tr (E87.tr (E102.tr (E117.tr (E132.tr (E147.tr (E162.tr (E177.tr (E192.tr E206)))))))))))))))).2.1) p220 (by rw [(Lay_X21_16 (v1.ext (E12.tr (E27.tr (E42.tr (E57.tr (E72.tr (E87.tr (E102.tr (E117.tr (E132.tr (E147.tr (E162.tr (E177.tr (E192.tr E206))))))))))))))).2.2]; exact q220) (by rw [(Lay_X21_16 (f0.ext (EB.tr (E12.tr (E27.tr (E42.tr (E57.tr (E72.tr (E87.tr (E102.tr (E117.tr (E132.tr (E147.tr (E162.tr (E177.tr (E192.tr E206)))))))))))))))).2.2]; exact r220) (fun i _ _ => ⟨rfl, (fun e => by cases e), by decide⟩) (Nat.le_of_ble_eq_true rfl) (Nat.le_of_ble_eq_true rfl) (by decide +kernel) (fun m220 em220 E220 => ?_)
  have hw := hw m220 em220
  refine x_aload_n HE 1 dX21_takes_223 rfl rfl ?_
  refine x_gR HE dX21_takes_224 fd_X21_17 q1159 (Or.inl rfl) (Lay_X21.tag (v1.ext (E12.tr (E27.tr (E42.tr (E57.tr (E72.tr (E87.tr (E102.tr (E117.tr (E132.tr (E147.tr (E162.tr (E177.tr (E192.tr (E206.tr E220)))))))))))))))) (Lay_X21_17 (v1.ext (E12.tr (E27.tr (E42.tr (E57.tr (E72.tr (E87.tr (E102.tr (E117.tr (E132.tr (E147.tr (E162.tr (E177.tr (E192.tr (E206.tr E220)))))))))))))))).1 ?_
  refine x_iconst HE dX21_takes_227 (by decide) ?_
  refine x_aload_n HE 0 dX21_takes_228 rfl rfl ?_
  refine x_gR HE dX21_takes_229 fd_X21_17 q1159 (Or.inl rfl) (Lay_X21.tag (f0.ext (EB.tr (E12.tr (E27.tr (E42.tr (E57.tr (E72.tr (E87.tr (E102.tr (E117.tr (E132.tr (E147.tr (E162.tr (E177.tr (E192.tr (E206.tr E220))))))))))))))))) (Lay_X21_17 (f0.ext (EB.tr (E12.tr (E27.tr (E42.tr (E57.tr (E72.tr (E87.tr (E102.tr (E117.tr (E132.tr (E147.tr (E162.tr (E177.tr (E192.tr (E206.tr E220))))))))))))))))).1 ?_
  refine x_iconst HE dX21_takes_232 (by decide) ?_
  refine x_iconst HE dX21_takes_233 (by decide) ?_
  obtain ⟨p234, hw⟩ := hw
  obtain ⟨q234, hw⟩ := hw
  obtain ⟨r234, hw⟩ := hw
  refine x_cpy (t := 1) (ty := .int) HE dX21_takes_234 rfl q1243 q456 q455 q141 (by simp [xAr]) (by unfold roT; omega) ((Lay_X21_17 (v1.ext (E12.tr (E27.tr (E42.tr (E57.tr (E72.tr (E87.tr (E102.tr (E117.tr (E132.tr (E147.tr (E162.tr (E177.tr (E192.tr (E206.tr E220)))))))))))))))).2.1) ((Lay_X21_17 (f0.ext (EB.tr (E12.tr (E27.tr (E42.tr (E57.tr (E72.tr (E87.tr (E102.tr (E117.tr (E132.tr (E147.tr (E162.tr (E177.tr (E192.tr (E206.tr E220))))))))))))))))).2.1) p234 (by rw [(Lay_X21_17 (v1.ext (E12.tr (E27.tr (E42.tr (E57.tr (E72.tr (E87.tr (E102.tr (E117.tr (E132.tr (E147.tr (E162.tr (E177.tr (E192.tr (E206.tr E220)))))))))))))))).2.2]; exact q234) (by rw [(Lay_X21_17 (f0.ext (EB.tr (E12.tr (E27.tr (E42.tr (E57.tr (E72.tr (E87.tr (E102.tr (E117.tr (E132.tr (E147.tr (E162.tr (E177.tr (E192.tr (E206.tr E220))))))))))))))))).2.2]; exact r234) (fun i _ _ => ⟨rfl, (fun e => by cases e), by decide⟩) (Nat.le_of_ble_eq_true rfl) (Nat.le_of_ble_eq_true rfl) (by decide +kernel) (fun m234 em234 E234 => ?_)
  have hw := hw m234 em234
  refine x_aload_n HE 1 dX21_takes_237 rfl rfl ?_
  refine x_gR HE dX21_takes_238 fd_X21_18 q1161 (Or.inl rfl) (Lay_X21.tag (v1.ext (E12.tr (E27.tr (E42.tr (E57.tr (E72.tr (E87.tr (E102.tr (E117.tr (E132.tr (E147.tr (E162.tr (E177.tr (E192.tr (E206.tr (E220.tr E234))))))))))))))))) (Lay_X21_18 (v1.ext (E12.tr (E27.tr (E42.tr (E57.tr (E72.tr (E87.tr (E102.tr (E117.tr (E132.tr (E147.tr (E162.tr (E177.tr (E192.tr (E206.tr (E220.tr E234))))))))))))))))).1 ?_
  refine x_iconst HE dX21_takes_241 (by decide) ?_
  refine x_aload_n HE 0 dX21_takes_242 rfl rfl ?_
  refine x_gR HE dX21_takes_243 fd_X21_18 q1161 (Or.inl rfl) (Lay_X21.tag (f0.ext (EB.tr (E12.tr (E27.tr (E42.tr (E57.tr (E72.tr (E87.tr (E102.tr (E117.tr (E132.tr (E147.tr (E162.tr (E177.tr (E192.tr (E206.tr (E220.tr E234)))))))))))))))))) (Lay_X21_18 (f0.ext (EB.tr (E12.tr (E27.tr (E42.tr (E57.tr (E72.tr (E87.tr (E102.tr (E117.tr (E132.tr (E147.tr (E162.tr (E177.tr (E192.tr (E206.tr (E220.tr E234)))))))))))))))))).1 ?_
  refine x_iconst HE dX21_takes_246 (by decide) ?_
  refine x_iconst HE dX21_takes_247 (by decide) ?_
  obtain ⟨p248, hw⟩ := hw
  obtain ⟨q248, hw⟩ := hw
  obtain ⟨r248, hw⟩ := hw
  refine x_cpy (t := 1) (ty := .int) HE dX21_takes_248 rfl q1243 q456 q455 q141 (by simp [xAr]) (by unfold roT; omega) ((Lay_X21_18 (v1.ext (E12.tr (E27.tr (E42.tr (E57.tr (E72.tr (E87.tr (E102.tr (E117.tr (E132.tr (E147.tr (E162.tr (E177.tr (E192.tr (E206.tr (E220.tr E234))))))))))))))))).2.1) ((Lay_X21_18 (f0.ext (EB.tr (E12.tr (E27.tr (E42.tr (E57.tr (E72.tr (E87.tr (E102.tr (E117.tr (E132.tr (E147.tr (E162.tr (E177.tr (E192.tr (E206.tr (E220.tr E234)))))))))))))))))).2.1) p248 (by rw [(Lay_X21_18 (v1.ext (E12.tr (E27.tr (E42.tr (E57.tr (E72.tr (E87.tr (E102.tr (E117.tr (E132.tr (E147.tr (E162.tr (E177.tr (E192.tr (E206.tr (E220.tr E234))))))))))))))))).2.2]; exact q248) (by rw [(Lay_X21_18 (f0.ext (EB.tr (E12.tr (E27.tr (E42.tr (E57.tr (E72.tr (E87.tr (E102.tr (E117.tr (E132.tr (E147.tr (E162.tr (E177.tr (E192.tr (E206.tr (E220.tr E234)))))))))))))))))).2.2]; exact r248) (fun i _ _ => ⟨rfl, (fun e => by cases e), by decide⟩) (Nat.le_of_ble_eq_true rfl) (Nat.le_of_ble_eq_true rfl) (by decide +kernel) (fun m248 em248 E248 => ?_)
  have hw := hw m248 em248
  refine x_aload_n HE 1 dX21_takes_251 rfl rfl ?_
  refine x_gR HE dX21_takes_252 fd_X21_19 q1163 (Or.inl rfl) (Lay_X21.tag (v1.ext (E12.tr (E27.tr (E42.tr (E57.tr (E72.tr (E87.tr (E102.tr (E117.tr (E132.tr (E147.tr (E162.tr (E177.tr (E192.tr (E206.tr (E220.tr (E234.tr E248)))))))))))))))))) (Lay_X21_19 (v1.ext (E12.tr (E27.tr (E42.tr (E57.tr (E72.tr (E87.tr (E102.tr (E117.tr (E132.tr (E147.tr (E162.tr (E177.tr (E192.tr (E206.tr (E220.tr (E234.tr E248)))))))))))))))))).1 ?_
  refine x_iconst HE dX21_takes_255 (by decide) ?_
  refine x_aload_n HE 0 dX21_takes_256 rfl rfl ?_
  refine x_gR HE dX21_takes_257 fd_X21_19 q1163 (Or.inl rfl) (Lay_X21.tag (f0.ext (EB.tr (E12.tr (E27.tr (E42.tr (E57.tr (E72.tr (E87.tr (E102.tr (E117.tr (E132.tr (E147.tr (E162.tr (E177.tr (E192.tr (E206.tr (E220.tr (E234.tr E248))))))))))))))))))) (Lay_X21_19 (f0.ext (EB.tr (E12.tr (E27.tr (E42.tr (E57.tr (E72.tr (E87.tr (E102.tr (E117.tr (E132.tr (E147.tr (E162.tr (E177.tr (E192.tr (E206.tr (E220.tr (E234.tr E248))))))))))))))))))).1 ?_
  refine x_iconst HE dX21_takes_260 (by decide) ?_
  refine x_iconst HE dX21_takes_261 (by decide) ?_
  obtain ⟨p262, hw⟩ := hw
  obtain ⟨q262, hw⟩ := hw
  obtain ⟨r262, hw⟩ := hw
  refine x_cpy (t := 1) (ty := .int) HE dX21_takes_262 rfl q1243 q456 q455 q141 (by simp [xAr]) (by unfold roT; omega) ((Lay_X21_19 (v1.ext (E12.tr (E27.tr (E42.tr (E57.tr (E72.tr (E87.tr (E102.tr (E117.tr (E132.tr (E147.tr (E162.tr (E177.tr (E192.tr (E206.tr (E220.tr (E234.tr E248)))))))))))))))))).2.1) ((Lay_X21_19 (f0.ext (EB.tr (E12.tr (E27.tr (E42.tr (E57.tr (E72.tr (E87.tr (E102.tr (E117.tr (E132.tr (E147.tr (E162.tr (E177.tr (E192.tr (E206.tr (E220.tr (E234.tr E248))))))))))))))))))).2.1) p262 (by rw [(Lay_X21_19 (v1.ext (E12.tr (E27.tr (E42.tr (E57.tr (E72.tr (E87.tr (E102.tr (E117.tr (E132.tr (E147.tr (E162.tr (E177.tr (E192.tr (E206.tr (E220.tr (E234.tr E248)))))))))))))))))).2.2]; exact q262) (by rw [(Lay_X21_19 (f0.ext (EB.tr (E12.tr (E27.tr (E42.tr (E57.tr (E72.tr (E87.tr (E102.tr (E117.tr (E132.tr (E147.tr (E162.tr (E177.tr (E192.tr (E206.tr (E220.tr (E234.tr E248))))))))))))))))))).2.2]; exact r262) (fun i _ _ => ⟨rfl, (fun e => by cases e), by decide⟩) (Nat.le_of_ble_eq_true rfl) (Nat.le_of_ble_eq_true rfl) (by decide +kernel) (fun m262 em262 E262 => ?_)
  have hw := hw m262 em262
  refine x_aload_n HE 1 dX21_takes_265 rfl rfl ?_
  refine x_gR HE dX21_takes_266 fd_X21_20 q1164 (Or.inl rfl) (Lay_X21.tag (v1.ext (E12.tr (E27.tr (E42.tr (E57.tr (E72.tr (E87.tr (E102.tr (E117.tr (E132.tr (E147.tr (E162.tr (E177.tr (E192.tr (E206.tr (E220.tr (E234.tr (E248.tr E262))))))))))))))))))) (Lay_X21_20 (v1.ext (E12.tr (E27.tr (E42.tr (E57.tr (E72.tr (E87.tr (E102.tr (E117.tr (E132.tr (E147.tr (E162.tr (E177.tr (E192.tr (E206.tr (E220.tr (E234.tr (E248.tr E262))))))))))))))))))).1 ?_
  refine x_iconst HE dX21_takes_269 (by decide) ?_
  refine x_aload_n HE 0 dX21_takes_270 rfl rfl ?_
  refine x_gR HE dX21_takes_271 fd_X21_20 q1164 (Or.inl rfl) (Lay_X21.tag (f0.ext (EB.tr (E12.tr (E27.tr (E42.tr (E57.tr (E72.tr (E87.tr (E102.tr (E117.tr (E132.tr (E147.tr (E162.tr (E177.tr (E192.tr (E206.tr (E220.tr (E234.tr (E248.tr E262)))))))))))))))))))) (Lay_X21_20 (f0.ext (EB.tr (E12.tr (E27.tr (E42.tr (E57.tr (E72.tr (E87.tr (E102.tr (E117.tr (E132.tr (E147.tr (E162.tr (E177.tr (E192.tr (E206.tr (E220.tr (E234.tr (E248.tr E262)))))))))))))))))))).1 ?_
  refine x_iconst HE dX21_takes_274 (by decide) ?_
  refine x_iconst HE dX21_takes_275 (by decide) ?_
  obtain ⟨p276, hw⟩ := hw
  obtain ⟨q276, hw⟩ := hw
  obtain ⟨r276, hw⟩ := hw
  refine x_cpy (t := 1) (ty := .int) HE dX21_takes_276 rfl q1243 q456 q455 q141 (by simp [xAr]) (by unfold roT; omega) ((Lay_X21_20 (v1.ext (E12.tr (E27.tr (E42.tr (E57.tr (E72.tr (E87.tr (E102.tr (E117.tr (E132.tr (E147.tr (E162.tr (E177.tr (E192.tr (E206.tr (E220.tr (E234.tr (E248.tr E262))))))))))))))))))).2.1) ((Lay_X21_20 (f0.ext (EB.tr (E12.tr (E27.tr (E42.tr (E57.tr (E72.tr (E87.tr (E102.tr (E117.tr (E132.tr (E147.tr (E162.tr (E177.tr (E192.tr (E206.tr (E220.tr (E234.tr (E248.tr E262)))))))))))))))))))).2.1) p276 (by rw [(Lay_X21_20 (v1.ext (E12.tr (E27.tr (E42.tr (E57.tr (E72.tr (E87.tr (E102.tr (E117.tr (E132.tr (E147.tr (E162.tr (E177.tr (E192.tr (E206.tr (E220.tr (E234.tr (E248.tr E262))))))))))))))))))).2.2]; exact q276) (by rw [(Lay_X21_20 (f0.ext (EB.tr (E12.tr (E27.tr (E42.tr (E57.tr (E72.tr (E87.tr (E102.tr (E117.tr (E132.tr (E147.tr (E162.tr (E177.tr (E192.tr (E206.tr (E220.tr (E234.tr (E248.tr E262)))))))))))))))))))).2.2]; exact r276) (fun i _ _ => ⟨rfl, (fun e => by cases e), by decide⟩) (Nat.le_of_ble_eq_true rfl) (Nat.le_of_ble_eq_true rfl) (by decide +kernel) (fun m276 em276 E276 => ?_)
  have hw := hw m276 em276
  refine x_aload_n HE 1 dX21_takes_279 rfl rfl ?_
  refine x_gR HE dX21_takes_280 fd_X21_21 q1165 (Or.inl rfl) (Lay_X21.tag (v1.ext (E12.tr (E27.tr (E42.tr (E57.tr (E72.tr (E87.tr (E102.tr (E117.tr (E132.tr (E147.tr (E162.tr (E177.tr (E192.tr (E206.tr (E220.tr (E234.tr (E248.tr (E262.tr E276)))))))))))))))))))) (Lay_X21_21 (v1.ext (E12.tr (E27.tr (E42.tr (E57.tr (E72.tr (E87.tr (E102.tr (E117.tr (E132.tr (E147.tr (E162.tr (E177.tr (E192.tr (E206.tr (E220.tr (E234.tr (E248.tr (E262.tr E276)))))))))))))))))))).1 ?_
  refine x_iconst HE dX21_takes_283 (by decide) ?_
  refine x_aload_n HE 0 dX21_takes_284 rfl rfl ?_
  refine x_gR HE dX21_takes_285 fd_X21_21 q1165 (Or.inl rfl) (Lay_X21.tag (f0.ext (EB.tr (E12.tr (E27.tr (E42.tr (E57.tr (E72.tr (E87.tr (E102.tr (E117.tr (E132.tr (E147.tr (E162.tr (E177.tr (E192.tr (E206.tr (E220.tr (E234.tr (E248.tr (E262.tr E276))))))))))))))))))))) (Lay_X21_21 (f0.ext (EB.tr (E12.tr (E27.tr (E42.tr (E57.tr (E72.tr (E87.tr (E102.tr (E117.tr (E132.tr (E147.tr (E162.tr (E177.tr (E192.tr (E206.tr (E220.tr (E234.tr (E248.tr (E262.tr E276))))))))))))))))))))).1 ?_
  refine x_iconst HE dX21_takes_288 (by decide) ?_
  refine x_aload_n HE 0 dX21_takes_289 rfl rfl ?_
  refine x_gR HE dX21_takes_290 fd_X21_21 q1165 (Or.inl rfl) (Lay_X21.tag (f0.ext (EB.tr (E12.tr (E27.tr (E42.tr (E57.tr (E72.tr (E87.tr (E102.tr (E117.tr (E132.tr (E147.tr (E162.tr (E177.tr (E192.tr (E206.tr (E220.tr (E234.tr (E248.tr (E262.tr E276))))))))))))))))))))) (Lay_X21_21 (f0.ext (EB.tr (E12.tr (E27.tr (E42.tr (E57.tr (E72.tr (E87.tr (E102.tr (E117.tr (E132.tr (E147.tr (E162.tr (E177.tr (E192.tr (E206.tr (E220.tr (E234.tr (E248.tr (E262.tr E276))))))))))))))))))))).1 ?_
  refine x_alen HE dX21_takes_293 (t := 1) (ty := .int) (by simp [xAr]) ((Lay_X21_21 (f0.ext (EB.tr (E12.tr (E27.tr (E42.tr (E57.tr (E72.tr (E87.tr (E102.tr (E117.tr (E132.tr (E147.tr (E162.tr (E177.tr (E192.tr (E206.tr (E220.tr (E234.tr (E248.tr (E262.tr E276))))))))))))))))))))).2.1) ((Lay_X21_21 (f0.ext (EB.tr (E12.tr (E27.tr (E42.tr (E57.tr (E72.tr (E87.tr (E102.tr (E117.tr (E132.tr (E147.tr (E162.tr (E177.tr (E192.tr (E206.tr (E220.tr (E234.tr (E248.tr (E262.tr E276))))))))))))))))))))).2.2) ?_
  obtain ⟨p294, hw⟩ := hw
  obtain ⟨q294, hw⟩ := hw
  obtain ⟨r294, hw⟩ := hw
  refine x_cpy (t := 1) (ty := .int) HE dX21_takes_294 rfl q1243 q456 q455 q141 (by simp [xAr]) (by unfold roT; omega) ((Lay_X21_21 (v1.ext (E12.tr (E27.tr (E42.tr (E57.tr (E72.tr (E87.tr (E102.tr (E117.tr (E132.tr (E147.tr (E162.tr (E177.tr (E192.tr (E206.tr (E220.tr (E234.tr (E248.tr (E262.tr E276)))))))))))))))))))).2.1) ((Lay_X21_21 (f0.ext (EB.tr (E12.tr (E27.tr (E42.tr (E57.tr (E72.tr (E87.tr (E102.tr (E117.tr (E132.tr (E147.tr (E162.tr (E177.tr (E192.tr (E206.tr (E220.tr (E234.tr (E248.tr (E262.tr E276))))))))))))))))))))).2.1) p294 (by rw [(Lay_X21_21 (v1.ext (E12.tr (E27.tr (E42.tr (E57.tr (E72.tr (E87.tr (E102.tr (E117.tr (E132.tr (E147.tr (E162.tr (E177.tr (E192.tr (E206.tr (E220.tr (E234.tr (E248.tr (E262.tr E276)))))))))))))))))))).2.2]; exact q294) (by rw [(Lay_X21_21 (f0.ext (EB.tr (E12.tr (E27.tr (E42.tr (E57.tr (E72.tr (E87.tr (E102.tr (E117.tr (E132.tr (E147.tr (E162.tr (E177.tr (E192.tr (E206.tr (E220.tr (E234.tr (E248.tr (E262.tr E276))))))))))))))))))))).2.2]; exact r294) (fun i _ _ => ⟨rfl, (fun e => by cases e), by decide⟩) (Nat.le_of_ble_eq_true rfl) (Nat.le_of_ble_eq_true rfl) (by decide +kernel) (fun m294 em294 E294 => ?_)
  have hw := hw m294 em294
  refine x_aload_n HE 1 dX21_takes_297 rfl rfl ?_
  refine x_gR HE dX21_takes_298 fd_X21_22 q1167 (Or.inl rfl) (Lay_X21.tag (v1.ext (E12.tr (E27.tr (E42.tr (E57.tr (E72.tr (E87.tr (E102.tr (E117.tr (E132.tr (E147.tr (E162.tr (E177.tr (E192.tr (E206.tr (E220.tr (E234.tr (E248.tr (E262.tr (E276.tr E294))))))))))))))))))))) (Lay_X21_22 (v1.ext (E12.tr (E27.tr (E42.tr (E57.tr (E72.tr (E87.tr (E102.tr (E117.tr (E132.tr (E147.tr (E162.tr (E177.tr (E192.tr (E206.tr (E220.tr (E234.tr (E248.tr (E262.tr (E276.tr E294))))))))))))))))))))).1 ?_
  refine x_iconst HE dX21_takes_301 (by decide) ?_
  refine x_aload_n HE 0 dX21_takes_302 rfl rfl ?_
  refine x_gR HE dX21_takes_303 fd_X21_22 q1167 (Or.inl rfl) (Lay_X21.tag (f0.ext (EB.tr (E12.tr (E27.tr (E42.tr (E57.tr (E72.tr (E87.tr (E102.tr (E117.tr (E132.tr (E147.tr (E162.tr (E177.tr (E192.tr (E206.tr (E220.tr (E234.tr (E248.tr (E262.tr (E276.tr E294)))))))))))))))))))))) (Lay_X21_22 (f0.ext (EB.tr (E12.tr (E27.tr (E42.tr (E57.tr (E72.tr (E87.tr (E102.tr (E117.tr (E132.tr (E147.tr (E162.tr (E177.tr (E192.tr (E206.tr (E220.tr (E234.tr (E248.tr (E262.tr (E276.tr E294)))))))))))))))))))))).1 ?_
  refine x_iconst HE dX21_takes_306 (by decide) ?_
  refine x_iconst HE dX21_takes_307 (by decide) ?_
  obtain ⟨p308, hw⟩ := hw
  obtain ⟨q308, hw⟩ := hw
  obtain ⟨r308, hw⟩ := hw
  refine x_cpy (t := 1) (ty := .int) HE dX21_takes_308 rfl q1243 q456 q455 q141 (by simp [xAr]) (by unfold roT; omega) ((Lay_X21_22 (v1.ext (E12.tr (E27.tr (E42.tr (E57.tr (E72.tr (E87.tr (E102.tr (E117.tr (E132.tr (E147.tr (E162.tr (E177.tr (E192.tr (E206.tr (E220.tr (E234.tr (E248.tr (E262.tr (E276.tr E294))))))))))))))))))))).2.1) ((Lay_X21_22 (f0.ext (EB.tr (E12.tr (E27.tr (E42.tr (E57.tr (E72.tr (E87.tr (E102.tr (E117.tr (E132.tr (E147.tr (E162.tr (E177.tr (E192.tr (E206.tr (E220.tr (E234.tr (E248.tr (E262.tr (E276.tr E294)))))))))))))))))))))).2.1) p308 (by rw [(Lay_X21_22 (v1.ext (E12.tr (E27.tr (E42.tr (E57.tr (E72.tr (E87.tr (E102.tr (E117.tr (E132.tr (E147.tr (E162.tr (E177.tr (E192.tr (E206.tr (E220.tr (E234.tr (E248.tr (E262.tr (E276.tr E294))))))))))))))))))))).2.2]; exact q308) (by rw [(Lay_X21_22 (f0.ext (EB.tr (E12.tr (E27.tr (E42.tr (E57.tr (E72.tr (E87.tr (E102.tr (E117.tr (E132.tr (E147.tr (E162.tr (E177.tr (E192.tr (E206.tr (E220.tr (E234.tr (E248.tr (E262.tr (E276.tr E294)))))))))))))))))))))).2.2]; exact r308) (fun i _ _ => ⟨rfl, (fun e => by cases e), by decide⟩) (Nat.le_of_ble_eq_true rfl) (Nat.le_of_ble_eq_true rfl) (by decide +kernel) (fun m308 em308 E308 => ?_)
  have hw := hw m308 em308
  refine x_aload_n HE 0 dX21_takes_311 rfl rfl ?_
  refine x_aload_n HE 1 dX21_takes_312 rfl rfl ?_
  refine x_gI HE dX21_takes_313 fd_X21_23 q1169 (Or.inl rfl) (Lay_X21.tag (v1.ext (E12.tr (E27.tr (E42.tr (E57.tr (E72.tr (E87.tr (E102.tr (E117.tr (E132.tr (E147.tr (E162.tr (E177.tr (E192.tr (E206.tr (E220.tr (E234.tr (E248.tr (E262.tr (E276.tr (E294.tr E308)))))))))))))))))))))) rfl ?_
  refine x_pI HE dX21_takes_316 fd_X21_23 q1169 (Or.inl rfl) (Or.inl rfl) (nf_int _) (Lay_X21.tag (f0.ext (EB.tr (E12.tr (E27.tr (E42.tr (E57.tr (E72.tr (E87.tr (E102.tr (E117.tr (E132.tr (E147.tr (E162.tr (E177.tr (E192.tr (E206.tr (E220.tr (E234.tr (E248.tr (E262.tr (E276.tr (E294.tr E308))))))))))))))))))))))) (nro (by decide)) (Or.inl nf_X21_23) (fun m316 em316 E316 => ?_)
  have hw := hw m316 em316
  refine x_aload_n HE 0 dX21_takes_319 rfl rfl ?_
  refine x_aload_n HE 1 dX21_takes_320 rfl rfl ?_
  refine x_gI HE dX21_takes_321 fd_X21_24 q1171 (Or.inl rfl) (Lay_X21.tag (v1.ext (E12.tr (E27.tr (E42.tr (E57.tr (E72.tr (E87.tr (E102.tr (E117.tr (E132.tr (E147.tr (E162.tr (E177.tr (E192.tr (E206.tr (E220.tr (E234.tr (E248.tr (E262.tr (E276.tr (E294.tr (E308.tr E316))))))))))))))))))))))) rfl ?_
  refine x_pI HE dX21_takes_324 fd_X21_24 q1171 (Or.inl rfl) (Or.inl rfl) (nf_int _) (Lay_X21.tag (f0.ext (EB.tr (E12.tr (E27.tr (E42.tr (E57.tr (E72.tr (E87.tr (E102.tr (E117.tr (E132.tr (E147.tr (E162.tr (E177.tr (E192.tr (E206.tr (E220.tr (E234.tr (E248.tr (E262.tr (E276.tr (E294.tr (E308.tr E316)))))))))))))))))))))))) (nro (by decide)) (Or.inl nf_X21_24) (fun m324 em324 E324 => ?_)
  have hw := hw m324 em324
  refine x_aload_n HE 0 dX21_takes_327 rfl rfl ?_
  refine x_aload_n HE 1 dX21_takes_328 rfl rfl ?_
  refine x_gI HE dX21_takes_329 fd_X21_25 q1173 (Or.inl rfl) (Lay_X21.tag (v1.ext (E12.tr (E27.tr (E42.tr (E57.tr (E72.tr (E87.tr (E102.tr (E117.tr (E132.tr (E147.tr (E162.tr (E177.tr (E192.tr (E206.tr (E220.tr (E234.tr (E248.tr (E262.tr (E276.tr (E294.tr (E308.tr (E316.tr E324)))))))))))))))))))))))) rfl ?_
  refine x_pI HE dX21_takes_332 fd_X21_25 q1173 (Or.inl rfl) (Or.inl rfl) (nf_int _) (Lay_X21.tag (f0.ext (EB.tr (E12.tr (E27.tr (E42.tr (E57.tr (E72.tr (E87.tr (E102.tr (E117.tr (E132.tr (E147.tr (E162.tr (E177.tr (E192.tr (E206.tr (E220.tr (E234.tr (E248.tr (E262.tr (E276.tr (E294.tr (E308.tr (E316.tr E324))))))))))))))))))))))))) (nro (by decide)) (Or.inl nf_X21_25) (fun m332 em332 E332 => ?_)
  have hw := hw m332 em332
  refine x_aload_n HE 0 dX21_takes_335 rfl rfl ?_
  refine x_aload_n HE 1 dX21_takes_336 rfl rfl ?_
  refine x_gI HE dX21_takes_337 fd_X21_26 q1175 (Or.inl rfl) (Lay_X21.tag (v1.ext (E12.tr (E27.tr (E42.tr (E57.tr (E72.tr (E87.tr (E102.tr (E117.tr (E132.tr (E147.tr (E162.tr (E177.tr (E192.tr (E206.tr (E220.tr (E234.tr (E248.tr (E262.tr (E276.tr (E294.tr (E308.tr (E316.tr (E324.tr E332))))))))))))))))))))))))) rfl ?_
  refine x_pI HE dX21_takes_340 fd_X21_26 q1175 (Or.inl rfl) (Or.inl rfl) (nf_int _) (Lay_X21.tag (f0.ext (EB.tr (E12.tr (E27.tr (E42.tr (E57.tr (E72.tr (E87.tr (E102.tr (E117.tr (E132.tr (E147.tr (E162.tr (E177.tr (E192.tr (E206.tr (E220.tr (E234.tr (E248.tr (E262.tr (E276.tr (E294.tr (E308.tr (E316.tr (E324.tr E332)))))))))))))))))))))))))) (nro (by decide)) (Or.inl nf_X21_26) (fun m340 em340 E340 => ?_)
  have hw := hw m340 em340
  exact x_vret HE hr dX21_takes_343 hw
theorem k_X21_takes {G : GT} {x0 x1 : Int} {Q : Hp → Prop} {h : Hp} (f0 : Lay_X21 h x0) (l : Launch) (hw : g_X21_takes x0 x1 Q h) : XM G l yX21_takes cX21_takes 2 none 1 60 [rV x0, rV x1] (QV Q) h :=
  XM.of (by decide) (Nat.le_of_ble_eq_true rfl) (fun X HE hr hn => w_X21_takes_0 HE hr f0 hw)
def g_X21_copy (x0 : Int) (Q : Int → Hp → Prop) (h : Hp) : Prop :=
  (capOK h 27) ∧ (∀ (a0 : Int) (m0 : Hp), a0 = hN h → m0 = alloc h 13 0 27 → WFa h → (g_X21_init a0 (hF m0 x0 0) (fun m8 => Ext m0 m8 → ((Lay_X21 m8 a0) ∧ (g_X21_takes a0 x0 (fun m14 => Ext m8 m14 → (Q a0 m14)) m8))) m0))
theorem w_X21_copy_0 {G : GT} {X : ET} {h0 : Hp} {x0 : Int} (HE : XE G X cX21_copy 2 RX21 5 109 h0) (hr : XR X (some (.object "NextAtBar$Ba\x72"))) (f0 : Lay_X21 h0 x0) {Q : Int → Hp → Prop} {h : Hp} (hw : g_X21_copy x0 Q h) : Wx G X h0 (QR Q) h 0 [some (rV x0), none] [] := by
  refine Wx.start (fun EB => ?_)
  unfold g_X21_copy at hw
  obtain ⟨v0, hw⟩ := hw
  refine x_newN HE dX21_copy_0 xc13 (by decide) (nro (by decide)) q1237 q1079 q157 v0 (fun a0 m0 ea0 em0 E0 w0 => ?_)
  have hw := hw a0 m0 ea0 em0 w0
  have t0 := alloc_tag ea0 em0
  refine x_dup HE dX21_copy_3 (fun o => o) ?_
  refine x_aload_n HE 0 dX21_copy_4 rfl rfl ?_
  refine x_gR HE dX21_copy_5 fd_X21_0 q1122 (Or.inl rfl) (Lay_X21.tag (f0.ext (EB.tr E0))) rfl ?_
  refine Wx.wf (fun wf8 => ?_)
  refine x_callI HE dX21_copy_8 rfl (fun l => k_X21_init t0 l hw) (As := [rV (hF m0 x0 0)]) (rest := [rV a0]) rfl (tag_pos wf8 t0 (by decide)) q1238 q157 q1081 q1082 rfl hy_X21_init.2 rfl rfl (Nat.le_of_ble_eq_true rfl) (Nat.le_of_ble_eq_true rfl) (Nat.le_of_ble_eq_true rfl) (kkV (fun m8 E8 hw => ?_))
  have hw := hw E8
  refine x_astore_n HE 1 (lo' := [some (rV x0), some (rV a0)]) dX21_copy_11 rfl (Nat.le_of_ble_eq_true rfl) rfl ?_
  refine x_aload_n HE 1 dX21_copy_12 rfl rfl ?_
  refine x_aload_n HE 0 dX21_copy_13 rfl rfl ?_
  obtain ⟨u14_0, hw⟩ := hw
  refine x_callV HE dX21_copy_14 rfl (fun l => k_X21_takes u14_0 l hw) (As := [rV x0]) (rest := []) rfl xc13 (Lay_X21.tag u14_0) (lw_V q1239 q1240 q1241 q157 q1242) hy_X21_takes rfl rfl (Nat.le_of_ble_eq_true rfl) (Nat.le_of_ble_eq_true rfl) (Nat.le_of_ble_eq_true rfl) (kkV (fun m14 E14 hw => ?_))
  have hw := hw E14
  refine x_aload_n HE 1 dX21_copy_17 rfl rfl ?_
  exact x_aret HE hr (Or.inl ⟨_, rfl⟩) dX21_copy_18 hw
theorem k_X21_copy {G : GT} {x0 : Int} {Q : Int → Hp → Prop} {h : Hp} (f0 : Lay_X21 h x0) (l : Launch) (hw : g_X21_copy x0 Q h) : XM G l yX21_copy cX21_copy 2 (some (.object "NextAtBar$Ba\x72")) 5 109 [rV x0] (QR Q) h :=
  XM.of (by decide) (Nat.le_of_ble_eq_true rfl) (fun X HE hr hn => w_X21_copy_0 HE hr f0 hw)
def g_X21_doesNow_b33 (x0 x1 : Int) (Q : Int → Hp → Prop) (s0 : Int) (h : Hp) : Prop :=
  Q s0 h
theorem w_X21_doesNow_33 {G : GT} {X : ET} {h0 : Hp} {x0 x1 : Int} (HE : XE G X cX21_doesNow 2 RX21 0 0 h0) (hr : XR X (some .int)) (f0 : Lay_X21 h0 x0) {Q : Int → Hp → Prop} {s0 : Int} {h : Hp} (hw : g_X21_doesNow_b33 x0 x1 Q s0 h) : Wx G X h0 (QI Q) h 33 [some (rV x0), some (iV x1)] [iV s0] := by
  refine Wx.start (fun EB => ?_)
  unfold g_X21_doesNow_b33 at hw
  exact x_iret HE hr dX21_doesNow_33 hw
def g_X21_doesNow_b27 (x0 x1 : Int) (Q : Int → Hp → Prop) (h : Hp) : Prop :=
  ((0 : Int) ≤ x1 ∧ x1 < 10) ∧ (g_X21_doesNow_b33 x0 x1 Q (hA h (x0 + 1) x1) h)
theorem w_X21_doesNow_27 {G : GT} {X : ET} {h0 : Hp} {x0 x1 : Int} (HE : XE G X cX21_doesNow 2 RX21 0 0 h0) (hr : XR X (some .int)) (f0 : Lay_X21 h0 x0) {Q : Int → Hp → Prop} {h : Hp} (hw : g_X21_doesNow_b27 x0 x1 Q  h) : Wx G X h0 (QI Q) h 27 [some (rV x0), some (iV x1)] [] := by
  refine Wx.start (fun EB => ?_)
  unfold g_X21_doesNow_b27 at hw
  refine x_aload_n HE 0 dX21_doesNow_27 rfl rfl ?_
  refine x_gR HE dX21_doesNow_28 fd_X21_2 q1124 (Or.inl rfl) (Lay_X21.tag (f0.ext EB)) (Lay_X21_2 (f0.ext EB)).1 ?_
  refine x_iload_n HE 1 dX21_doesNow_31 rfl rfl ?_
  obtain ⟨i32, hw⟩ := hw
  refine x_iald HE dX21_doesNow_32 (t := 1) (by decide) ((Lay_X21_2 (f0.ext EB)).2.1) (ix_of ((Lay_X21_2 (f0.ext EB)).2.2) i32) rfl ?_
  exact w_X21_doesNow_33 HE hr f0 hw
def g_X21_doesNow (x0 x1 : Int) (Q : Int → Hp → Prop) (h : Hp) : Prop :=
  ((0 : Int) ≤ x1 ∧ x1 < 10) ∧ ((((hA h (x0 + 1) x1) ≠ 2) → (g_X21_doesNow_b27 x0 x1 Q h)) ∧ (((hA h (x0 + 1) x1) = 2) → (((0 : Int) ≤ x1 ∧ x1 < 10) ∧ ((((hF h x0 24) < (hA h (x0 + 8) x1)) → (g_X21_doesNow_b27 x0 x1 Q h)) ∧ (((hA h (x0 + 8) x1) ≤ (hF h x0 24)) → (g_X21_doesNow_b33 x0 x1 Q 3 h))))))
theorem w_X21_doesNow_0 {G : GT} {X : ET} {h0 : Hp} {x0 x1 : Int} (HE : XE G X cX21_doesNow 2 RX21 0 0 h0) (hr : XR X (some .int)) (f0 : Lay_X21 h0 x0) {Q : Int → Hp → Prop} {h : Hp} (hw : g_X21_doesNow x0 x1 Q h) : Wx G X h0 (QI Q) h 0 [some (rV x0), some (iV x1)] [] := by
  refine Wx.start (fun EB => ?_)
  unfold g_X21_doesNow at hw
  refine x_aload_n HE 0 dX21_doesNow_0 rfl rfl ?_
  refine x_gR HE dX21_doesNow_1 fd_X21_2 q1124 (Or.inl rfl) (Lay_X21.tag (f0.ext EB)) (Lay_X21_2 (f0.ext EB)).1 ?_
  refine x_iload_n HE 1 dX21_doesNow_4 rfl rfl ?_
  obtain ⟨i5, hw⟩ := hw
  refine x_iald HE dX21_doesNow_5 (t := 1) (by decide) ((Lay_X21_2 (f0.ext EB)).2.1) (ix_of ((Lay_X21_2 (f0.ext EB)).2.2) i5) rfl ?_
  refine x_iconst HE dX21_doesNow_6 (by decide) ?_
  refine x_ic_ne HE 27 dX21_doesNow_7 (by decide) (fun c7 => ?_) (fun c7 => ?_)
  · have hw := hw.1 c7
    exact w_X21_doesNow_27 HE hr f0 hw
  · have hw := hw.2 c7
    refine x_aload_n HE 0 dX21_doesNow_10 rfl rfl ?_
    refine x_gR HE dX21_doesNow_11 fd_X21_9 q1142 (Or.inl rfl) (Lay_X21.tag (f0.ext EB)) (Lay_X21_9 (f0.ext EB)).1 ?_
    refine x_iload_n HE 1 dX21_doesNow_14 rfl rfl ?_
    obtain ⟨i15, hw⟩ := hw
    refine x_iald HE dX21_doesNow_15 (t := 1) (by decide) ((Lay_X21_9 (f0.ext EB)).2.1) (ix_of ((Lay_X21_9 (f0.ext EB)).2.2) i15) rfl ?_
    refine x_aload_n HE 0 dX21_doesNow_16 rfl rfl ?_
    refine x_gI HE dX21_doesNow_17 fd_X21_24 q1171 (Or.inl rfl) (Lay_X21.tag (f0.ext EB)) rfl ?_
    refine x_ic_gt HE 27 dX21_doesNow_20 (by decide) (fun c20 => ?_) (fun c20 => ?_)
    · have hw := hw.1 c20
      exact w_X21_doesNow_27 HE hr f0 hw
    · have hw := hw.2 c20
      refine x_iconst HE dX21_doesNow_23 (by decide) ?_
      refine x_goto HE 33 dX21_doesNow_24 (by decide) ?_
      exact w_X21_doesNow_33 HE hr f0 hw
theorem k_X21_doesNow {G : GT} {x0 x1 : Int} {Q : Int → Hp → Prop} {h : Hp} (f0 : Lay_X21 h x0) (l : Launch) (hw : g_X21_doesNow x0 x1 Q h) : XM G l yX21_doesNow cX21_doesNow 2 (some .int) 0 0 [rV x0, iV x1] (QI Q) h :=
  XM.of (by decide) (Nat.le_of_ble_eq_true rfl) (fun X HE hr hn => w_X21_doesNow_0 HE hr f0 hw)
def g_X21_busyHands_b45 (x0 x1 : Int) (Q : Int → Hp → Prop) (l2 : Int) (h : Hp) : Prop :=
  Q l2 h
theorem w_X21_busyHands_45 {G : GT} {X : ET} {h0 : Hp} {x0 x1 : Int} (HE : XE G X cX21_busyHands 4 RX21 0 0 h0) (hr : XR X (some .int)) (f0 : Lay_X21 h0 x0) {Q : Int → Hp → Prop} {l2 : Int} {h : Hp} (hw : g_X21_busyHands_b45 x0 x1 Q l2 h) : Wx G X h0 (QI Q) h 45 [some (rV x0), some (iV x1), some (iV l2), none] [] := by
  refine Wx.start (fun EB => ?_)
  unfold g_X21_busyHands_b45 at hw
  refine x_iload_n HE 2 dX21_busyHands_45 rfl rfl ?_
  exact x_iret HE hr dX21_busyHands_46 hw
def g_X21_busyHands_b37 (x0 x1 : Int) (Q : Int → Hp → Prop) (K4 : Int → Int → Hp → Prop) (l3 s0 s1 : Int) (h : Hp) : Prop :=
  (i32 (s0 + s1)) ∧ (∀ y38 : Int, y38 = (s0 + s1) → ((i32 (l3 + 1)) ∧ (∀ y39 : Int, y39 = l3 + 1 → (K4 y38 y39 h))))
theorem w_X21_busyHands_37 {G : GT} {X : ET} {h0 : Hp} {x0 x1 : Int} (HE : XE G X cX21_busyHands 4 RX21 0 0 h0) (hr : XR X (some .int)) (f0 : Lay_X21 h0 x0) {Q : Int → Hp → Prop} {K4 : Int → Int → Hp → Prop} (hK4 : ∀ (l2 l3 : Int) (h : Hp), K4 l2 l3 h → Wx G X h0 (QI Q) h 4 [some (rV x0), some (iV x1), some (iV l2), some (iV l3)] []) {l3 s0 s1 : Int} {h : Hp} (hw : g_X21_busyHands_b37 x0 x1 Q K4 l3 s0 s1 h) : Wx G X h0 (QI Q) h 37 [some (rV x0), some (iV x1), none, some (iV l3)] [iV s1, iV s0] := by
  refine Wx.start (fun EB => ?_)
  unfold g_X21_busyHands_b37 at hw
  obtain ⟨v37, hw⟩ := hw
  refine x_iadd HE dX21_busyHands_37 v37 ?_
  refine x_istore_nN HE 2 (fun y38 => [some (rV x0), some (iV x1), some (iV y38), some (iV l3)]) dX21_busyHands_38 rfl (Nat.le_of_ble_eq_true rfl) (fun _ => rfl) (fun y38 ey38 => ?_)
  have hw := hw y38 ey38
  obtain ⟨v39, hw⟩ := hw
  refine x_iincN HE (fun y39 => [some (rV x0), some (iV x1), some (iV y38), some (iV y39)]) dX21_busyHands_39 rfl v39 (Nat.le_of_ble_eq_true rfl) (fun _ => rfl) (fun y39 ey39 => ?_)
  have hw := hw y39 ey39
  refine x_goto HE 4 dX21_busyHands_42 (by decide) ?_
  exact hK4 _ _ _ hw
def g_X21_busyHands_L4 (x0 x1 : Int) (Q : Int → Hp → Prop) (K4 : Int → Int → Hp → Prop) (l2 l3 : Int) (h : Hp) : Prop :=
  ((0 : Int) ≤ x1 ∧ x1 < 4) ∧ ((((hA h (x0 + 19) x1) ≤ l3) → (g_X21_busyHands_b45 x0 x1 Q l2 h)) ∧ ((l3 < (hA h (x0 + 19) x1)) → ((i32 (2 * x1)) ∧ ((i32 ((2 * x1) + l3)) ∧ (((0 : Int) ≤ ((2 * x1) + l3) ∧ ((2 * x1) + l3) < 8) ∧ ((((hA h (x0 + 20) ((2 * x1) + l3)) ≤ (hF h x0 24)) → (g_X21_busyHands_b37 x0 x1 Q K4 l3 l2 0 h)) ∧ (((hF h x0 24) < (hA h (x0 + 20) ((2 * x1) + l3))) → (g_X21_busyHands_b37 x0 x1 Q K4 l3 l2 1 h))))))))
theorem w_X21_busyHands_4 {G : GT} {X : ET} {h0 : Hp} {x0 x1 : Int} (HE : XE G X cX21_busyHands 4 RX21 0 0 h0) (hr : XR X (some .int)) (f0 : Lay_X21 h0 x0) {Q : Int → Hp → Prop} {K4 : Int → Int → Hp → Prop} (hK4 : ∀ (l2 l3 : Int) (h : Hp), K4 l2 l3 h → Wx G X h0 (QI Q) h 4 [some (rV x0), some (iV x1), some (iV l2), some (iV l3)] []) {l2 l3 : Int} {h : Hp} (hw : g_X21_busyHands_L4 x0 x1 Q K4 l2 l3 h) : Wx G X h0 (QI Q) h 4 [some (rV x0), some (iV x1), some (iV l2), some (iV l3)] [] := by
  refine Wx.start (fun EB => ?_)
  unfold g_X21_busyHands_L4 at hw
  refine x_iload_n HE 3 dX21_busyHands_4 rfl rfl ?_
  refine x_aload_n HE 0 dX21_busyHands_5 rfl rfl ?_
  refine x_gR HE dX21_busyHands_6 fd_X21_20 q1164 (Or.inl rfl) (Lay_X21.tag (f0.ext EB)) (Lay_X21_20 (f0.ext EB)).1 ?_
  refine x_iload_n HE 1 dX21_busyHands_9 rfl rfl ?_
  obtain ⟨i10, hw⟩ := hw
  refine x_iald HE dX21_busyHands_10 (t := 1) (by decide) ((Lay_X21_20 (f0.ext EB)).2.1) (ix_of ((Lay_X21_20 (f0.ext EB)).2.2) i10) rfl ?_
  refine x_ic_ge HE 45 dX21_busyHands_11 (by decide) (fun c11 => ?_) (fun c11 => ?_)
  · have hw := hw.1 c11
    refine Wx.mask [true, true, true, false] (lo2 := [some (rV x0), some (iV x1), some (iV l2), none]) rfl ?_
    exact w_X21_busyHands_45 HE hr f0 hw
  · have hw := hw.2 c11
    refine x_iload_n HE 2 dX21_busyHands_14 rfl rfl ?_
    refine x_aload_n HE 0 dX21_busyHands_15 rfl rfl ?_
    refine x_gR HE dX21_busyHands_16 fd_X21_21 q1165 (Or.inl rfl) (Lay_X21.tag (f0.ext EB)) (Lay_X21_21 (f0.ext EB)).1 ?_
    refine x_iconst HE dX21_busyHands_19 (by decide) ?_
    refine x_iload_n HE 1 dX21_busyHands_20 rfl rfl ?_
    obtain ⟨v21, hw⟩ := hw
    refine x_imul HE dX21_busyHands_21 v21 ?_
    refine x_iload_n HE 3 dX21_busyHands_22 rfl rfl ?_
    obtain ⟨v23, hw⟩ := hw
    refine x_iadd HE dX21_busyHands_23 v23 ?_
    obtain ⟨i24, hw⟩ := hw
    refine x_iald HE dX21_busyHands_24 (t := 1) (by decide) ((Lay_X21_21 (f0.ext EB)).2.1) (ix_of ((Lay_X21_21 (f0.ext EB)).2.2) i24) rfl ?_
    refine x_aload_n HE 0 dX21_busyHands_25 rfl rfl ?_
    refine x_gI HE dX21_busyHands_26 fd_X21_24 q1171 (Or.inl rfl) (Lay_X21.tag (f0.ext EB)) rfl ?_
    refine x_ic_le HE 36 dX21_busyHands_29 (by decide) (fun c29 => ?_) (fun c29 => ?_)
    · have hw := hw.1 c29
      refine x_iconst HE dX21_busyHands_36 (by decide) ?_
      refine Wx.mask [true, true, false, true] (lo2 := [some (rV x0), some (iV x1), none, some (iV l3)]) rfl ?_
      exact w_X21_busyHands_37 HE hr f0 hK4 hw
    · have hw := hw.2 c29
      refine x_iconst HE dX21_busyHands_32 (by decide) ?_
      refine x_goto HE 37 dX21_busyHands_33 (by decide) ?_
      refine Wx.mask [true, true, false, true] (lo2 := [some (rV x0), some (iV x1), none, some (iV l3)]) rfl ?_
      exact w_X21_busyHands_37 HE hr f0 hK4 hw
theorem wl_X21_busyHands_4 {G : GT} {X : ET} {h0 : Hp} {x0 x1 : Int} (HE : XE G X cX21_busyHands 4 RX21 0 0 h0) (hr : XR X (some .int)) (f0 : Lay_X21 h0 x0) {Q : Int → Hp → Prop} {l2 l3 : Int} {h : Hp} (hw : Lp2 (g_X21_busyHands_L4 x0 x1 Q) l2 l3 h) : Wx G X h0 (QI Q) h 4 [some (rV x0), some (iV x1), some (iV l2), some (iV l3)] [] := by
  obtain ⟨n, hw⟩ := hw
  induction n generalizing l2 l3 h with
  | zero => exact hw.elim
  | succ n ih => exact w_X21_busyHands_4 HE hr f0 (fun _ _ _ hk => ih hk) hw
def g_X21_busyHands (x0 x1 : Int) (Q : Int → Hp → Prop) (h : Hp) : Prop :=
  Lp2 (g_X21_busyHands_L4 x0 x1 Q) 0 0 h
theorem w_X21_busyHands_0 {G : GT} {X : ET} {h0 : Hp} {x0 x1 : Int} (HE : XE G X cX21_busyHands 4 RX21 0 0 h0) (hr : XR X (some .int)) (f0 : Lay_X21 h0 x0) {Q : Int → Hp → Prop} {h : Hp} (hw : g_X21_busyHands x0 x1 Q h) : Wx G X h0 (QI Q) h 0 [some (rV x0), some (iV x1), none, none] [] := by
  refine Wx.start (fun EB => ?_)
  unfold g_X21_busyHands at hw
  refine x_iconst HE dX21_busyHands_0 (by decide) ?_
  refine x_istore_n HE 2 (lo' := [some (rV x0), some (iV x1), some (iV 0), none]) dX21_busyHands_1 rfl (Nat.le_of_ble_eq_true rfl) rfl ?_
  refine x_iconst HE dX21_busyHands_2 (by decide) ?_
  refine x_istore_n HE 3 (lo' := [some (rV x0), some (iV x1), some (iV 0), some (iV 0)]) dX21_busyHands_3 rfl (Nat.le_of_ble_eq_true rfl) rfl ?_
  exact wl_X21_busyHands_4 HE hr f0 hw
theorem k_X21_busyHands {G : GT} {x0 x1 : Int} {Q : Int → Hp → Prop} {h : Hp} (f0 : Lay_X21 h x0) (l : Launch) (hw : g_X21_busyHands x0 x1 Q h) : XM G l yX21_busyHands cX21_busyHands 4 (some .int) 0 0 [rV x0, iV x1] (QI Q) h :=
  XM.of (by decide) (Nat.le_of_ble_eq_true rfl) (fun X HE hr hn => w_X21_busyHands_0 HE hr f0 hw)
def g_X21_firstFree_b42 (x0 x1 : Int) (Q : Int → Hp → Prop) (l2 : Int) (h : Hp) : Prop :=
  Q (if (hF h x0 24) < l2 then l2 else (hF h x0 24)) h
theorem w_X21_firstFree_42 {G : GT} {X : ET} {h0 : Hp} {x0 x1 : Int} (HE : XE G X cX21_firstFree 4 RX21 1 30 h0) (hr : XR X (some .int)) (f0 : Lay_X21 h0 x0) {Q : Int → Hp → Prop} {l2 : Int} {h : Hp} (hw : g_X21_firstFree_b42 x0 x1 Q l2 h) : Wx G X h0 (QI Q) h 42 [some (rV x0), some (iV x1), some (iV l2), none] [] := by
  refine Wx.start (fun EB => ?_)
  unfold g_X21_firstFree_b42 at hw
  refine x_aload_n HE 0 dX21_firstFree_42 rfl rfl ?_
  refine x_gI HE dX21_firstFree_43 fd_X21_24 q1171 (Or.inl rfl) (Lay_X21.tag (f0.ext EB)) rfl ?_
  refine x_iload_n HE 2 dX21_firstFree_46 rfl rfl ?_
  refine x_mmax HE dX21_firstFree_47 rfl q1294 q434 q139 q435 (Nat.le_of_ble_eq_true rfl) (Nat.le_of_ble_eq_true rfl) (Nat.le_of_ble_eq_true rfl) ?_
  exact x_iret HE hr dX21_firstFree_50 hw
def g_X21_firstFree_L11 (x0 x1 : Int) (Q : Int → Hp → Prop) (K11 : Int → Int → Hp → Prop) (l2 l3 : Int) (h : Hp) : Prop :=
  ((0 : Int) ≤ x1 ∧ x1 < 4) ∧ ((((hA h (x0 + 19) x1) ≤ l3) → (g_X21_firstFree_b42 x0 x1 Q l2 h)) ∧ ((l3 < (hA h (x0 + 19) x1)) → ((i32 (2 * x1)) ∧ ((i32 ((2 * x1) + l3)) ∧ (((0 : Int) ≤ ((2 * x1) + l3) ∧ ((2 * x1) + l3) < 8) ∧ (∀ y35 : Int, y35 = (if (hA h (x0 + 20) ((2 * x1) + l3)) < l2 then (hA h (x0 + 20) ((2 * x1) + l3)) else l2) → ((i32 (l3 + 1)) ∧ (∀ y36 : Int, y36 = l3 + 1 → (K11 y35 y36 h)))))))))
theorem w_X21_firstFree_11 {G : GT} {X : ET} {h0 : Hp} {x0 x1 : Int} (HE : XE G X cX21_firstFree 4 RX21 1 30 h0) (hr : XR X (some .int)) (f0 : Lay_X21 h0 x0) {Q : Int → Hp → Prop} {K11 : Int → Int → Hp → Prop} (hK11 : ∀ (l2 l3 : Int) (h : Hp), K11 l2 l3 h → Wx G X h0 (QI Q) h 11 [some (rV x0), some (iV x1), some (iV l2), some (iV l3)] []) {l2 l3 : Int} {h : Hp} (hw : g_X21_firstFree_L11 x0 x1 Q K11 l2 l3 h) : Wx G X h0 (QI Q) h 11 [some (rV x0), some (iV x1), some (iV l2), some (iV l3)] [] := by
  refine Wx.start (fun EB => ?_)
  unfold g_X21_firstFree_L11 at hw
  refine x_iload_n HE 3 dX21_firstFree_11 rfl rfl ?_
  refine x_aload_n HE 0 dX21_firstFree_12 rfl rfl ?_
  refine x_gR HE dX21_firstFree_13 fd_X21_20 q1164 (Or.inl rfl) (Lay_X21.tag (f0.ext EB)) (Lay_X21_20 (f0.ext EB)).1 ?_
  refine x_iload_n HE 1 dX21_firstFree_16 rfl rfl ?_
  obtain ⟨i17, hw⟩ := hw
  refine x_iald HE dX21_firstFree_17 (t := 1) (by decide) ((Lay_X21_20 (f0.ext EB)).2.1) (ix_of ((Lay_X21_20 (f0.ext EB)).2.2) i17) rfl ?_
  refine x_ic_ge HE 42 dX21_firstFree_18 (by decide) (fun c18 => ?_) (fun c18 => ?_)
  · have hw := hw.1 c18
    refine Wx.mask [true, true, true, false] (lo2 := [some (rV x0), some (iV x1), some (iV l2), none]) rfl ?_
    exact w_X21_firstFree_42 HE hr f0 hw
  · have hw := hw.2 c18
    refine x_iload_n HE 2 dX21_firstFree_21 rfl rfl ?_
    refine x_aload_n HE 0 dX21_firstFree_22 rfl rfl ?_
    refine x_gR HE dX21_firstFree_23 fd_X21_21 q1165 (Or.inl rfl) (Lay_X21.tag (f0.ext EB)) (Lay_X21_21 (f0.ext EB)).1 ?_
    refine x_iconst HE dX21_firstFree_26 (by decide) ?_
    refine x_iload_n HE 1 dX21_firstFree_27 rfl rfl ?_
    obtain ⟨v28, hw⟩ := hw
    refine x_imul HE dX21_firstFree_28 v28 ?_
    refine x_iload_n HE 3 dX21_firstFree_29 rfl rfl ?_
    obtain ⟨v30, hw⟩ := hw
    refine x_iadd HE dX21_firstFree_30 v30 ?_
    obtain ⟨i31, hw⟩ := hw
    refine x_iald HE dX21_firstFree_31 (t := 1) (by decide) ((Lay_X21_21 (f0.ext EB)).2.1) (ix_of ((Lay_X21_21 (f0.ext EB)).2.2) i31) rfl ?_
    refine x_mmin HE dX21_firstFree_32 rfl q1293 q452 q139 q453 (Nat.le_of_ble_eq_true rfl) (Nat.le_of_ble_eq_true rfl) (Nat.le_of_ble_eq_true rfl) ?_
    refine x_istore_nN HE 2 (fun y35 => [some (rV x0), some (iV x1), some (iV y35), some (iV l3)]) dX21_firstFree_35 rfl (Nat.le_of_ble_eq_true rfl) (fun _ => rfl) (fun y35 ey35 => ?_)
    have hw := hw y35 ey35
    obtain ⟨v36, hw⟩ := hw
    refine x_iincN HE (fun y36 => [some (rV x0), some (iV x1), some (iV y35), some (iV y36)]) dX21_firstFree_36 rfl v36 (Nat.le_of_ble_eq_true rfl) (fun _ => rfl) (fun y36 ey36 => ?_)
    have hw := hw y36 ey36
    refine x_goto HE 11 dX21_firstFree_39 (by decide) ?_
    exact hK11 _ _ _ hw
theorem wl_X21_firstFree_11 {G : GT} {X : ET} {h0 : Hp} {x0 x1 : Int} (HE : XE G X cX21_firstFree 4 RX21 1 30 h0) (hr : XR X (some .int)) (f0 : Lay_X21 h0 x0) {Q : Int → Hp → Prop} {l2 l3 : Int} {h : Hp} (hw : Lp2 (g_X21_firstFree_L11 x0 x1 Q) l2 l3 h) : Wx G X h0 (QI Q) h 11 [some (rV x0), some (iV x1), some (iV l2), some (iV l3)] [] := by
  obtain ⟨n, hw⟩ := hw
  induction n generalizing l2 l3 h with
  | zero => exact hw.elim
  | succ n ih => exact w_X21_firstFree_11 HE hr f0 (fun _ _ _ hk => ih hk) hw
def g_X21_firstFree (x0 x1 : Int) (Q : Int → Hp → Prop) (h : Hp) : Prop :=
  (i32 (2 * x1)) ∧ (((0 : Int) ≤ (2 * x1) ∧ (2 * x1) < 8) ∧ (∀ y8 : Int, y8 = (hA h (x0 + 20) (2 * x1)) → (Lp2 (g_X21_firstFree_L11 x0 x1 Q) y8 1 h)))
theorem w_X21_firstFree_0 {G : GT} {X : ET} {h0 : Hp} {x0 x1 : Int} (HE : XE G X cX21_firstFree 4 RX21 1 30 h0) (hr : XR X (some .int)) (f0 : Lay_X21 h0 x0) {Q : Int → Hp → Prop} {h : Hp} (hw : g_X21_firstFree x0 x1 Q h) : Wx G X h0 (QI Q) h 0 [some (rV x0), some (iV x1), none, none] [] := by
  refine Wx.start (fun EB => ?_)
  unfold g_X21_firstFree at hw
  refine x_aload_n HE 0 dX21_firstFree_0 rfl rfl ?_
  refine x_gR HE dX21_firstFree_1 fd_X21_21 q1165 (Or.inl rfl) (Lay_X21.tag (f0.ext EB)) (Lay_X21_21 (f0.ext EB)).1 ?_
  refine x_iconst HE dX21_firstFree_4 (by decide) ?_
  refine x_iload_n HE 1 dX21_firstFree_5 rfl rfl ?_
  obtain ⟨v6, hw⟩ := hw
  refine x_imul HE dX21_firstFree_6 v6 ?_
  obtain ⟨i7, hw⟩ := hw
  refine x_iald HE dX21_firstFree_7 (t := 1) (by decide) ((Lay_X21_21 (f0.ext EB)).2.1) (ix_of ((Lay_X21_21 (f0.ext EB)).2.2) i7) rfl ?_
  refine x_istore_nN HE 2 (fun y8 => [some (rV x0), some (iV x1), some (iV y8), none]) dX21_firstFree_8 rfl (Nat.le_of_ble_eq_true rfl) (fun _ => rfl) (fun y8 ey8 => ?_)
  have hw := hw y8 ey8
  refine x_iconst HE dX21_firstFree_9 (by decide) ?_
  refine x_istore_n HE 3 (lo' := [some (rV x0), some (iV x1), some (iV y8), some (iV 1)]) dX21_firstFree_10 rfl (Nat.le_of_ble_eq_true rfl) rfl ?_
  exact wl_X21_firstFree_11 HE hr f0 hw
theorem k_X21_firstFree {G : GT} {x0 x1 : Int} {Q : Int → Hp → Prop} {h : Hp} (f0 : Lay_X21 h x0) (l : Launch) (hw : g_X21_firstFree x0 x1 Q h) : XM G l yX21_firstFree cX21_firstFree 4 (some .int) 1 30 [rV x0, iV x1] (QI Q) h :=
  XM.of (by decide) (Nat.le_of_ble_eq_true rfl) (fun X HE hr hn => w_X21_firstFree_0 HE hr f0 hw)
def g_X21_isOnStretch (x0 x1 x2 : Int) (Q : Int → Hp → Prop) (h : Hp) : Prop :=
  ((0 : Int) ≤ x2 ∧ x2 < 10) ∧ (((0 : Int) ≤ x1 ∧ x1 < 4) ∧ (((0 : Int) ≤ x1 ∧ x1 < 4) ∧ (g_X1_in (hA h (x0 + 2) x2) (hA h (x0 + 16) x1) (hA h (x0 + 17) x1) (fun r18 m18 => Ext h m18 → ((r18 = 0 ∨ r18 = 1) ∧ Q r18 m18)) h)))
theorem w_X21_isOnStretch_0 {G : GT} {X : ET} {h0 : Hp} {x0 x1 x2 : Int} (HE : XE G X cX21_isOnStretch 3 RX21 1 22 h0) (hr : XR X (some .boolean)) (f0 : Lay_X21 h0 x0) {Q : Int → Hp → Prop} {h : Hp} (hw : g_X21_isOnStretch x0 x1 x2 Q h) : Wx G X h0 (QI Q) h 0 [some (rV x0), some (iV x1), some (iV x2)] [] := by
  refine Wx.start (fun EB => ?_)
  unfold g_X21_isOnStretch at hw
  refine x_aload_n HE 0 dX21_isOnStretch_0 rfl rfl ?_
  refine x_gR HE dX21_isOnStretch_1 fd_X21_3 q1126 (Or.inl rfl) (Lay_X21.tag (f0.ext EB)) (Lay_X21_3 (f0.ext EB)).1 ?_
  refine x_iload_n HE 2 dX21_isOnStretch_4 rfl rfl ?_
  obtain ⟨i5, hw⟩ := hw
  refine x_iald HE dX21_isOnStretch_5 (t := 1) (by decide) ((Lay_X21_3 (f0.ext EB)).2.1) (ix_of ((Lay_X21_3 (f0.ext EB)).2.2) i5) rfl ?_
  refine x_aload_n HE 0 dX21_isOnStretch_6 rfl rfl ?_
  refine x_gR HE dX21_isOnStretch_7 fd_X21_17 q1159 (Or.inl rfl) (Lay_X21.tag (f0.ext EB)) (Lay_X21_17 (f0.ext EB)).1 ?_
  refine x_iload_n HE 1 dX21_isOnStretch_10 rfl rfl ?_
  obtain ⟨i11, hw⟩ := hw
  refine x_iald HE dX21_isOnStretch_11 (t := 1) (by decide) ((Lay_X21_17 (f0.ext EB)).2.1) (ix_of ((Lay_X21_17 (f0.ext EB)).2.2) i11) rfl ?_
  refine x_aload_n HE 0 dX21_isOnStretch_12 rfl rfl ?_
  refine x_gR HE dX21_isOnStretch_13 fd_X21_18 q1161 (Or.inl rfl) (Lay_X21.tag (f0.ext EB)) (Lay_X21_18 (f0.ext EB)).1 ?_
  refine x_iload_n HE 1 dX21_isOnStretch_16 rfl rfl ?_
  obtain ⟨i17, hw⟩ := hw
  refine x_iald HE dX21_isOnStretch_17 (t := 1) (by decide) ((Lay_X21_18 (f0.ext EB)).2.1) (ix_of ((Lay_X21_18 (f0.ext EB)).2.2) i17) rfl ?_
  refine x_callSN HE dX21_isOnStretch_18 rfl (fun l => k_X1_in  l hw) (As := [iV (hA h (x0 + 2) x2), iV (hA h (x0 + 16) x1), iV (hA h (x0 + 17) x1)]) (rest := []) rfl (List.mem_of_getElem? (i := 20) rfl) q123 q277 q278 hy_X1_in.2 rfl rfl (Nat.le_of_ble_eq_true rfl) (Nat.le_of_ble_eq_true rfl) (Nat.le_of_ble_eq_true rfl) (kkI (fun r18 m18 E18 hw => ?_))
  have hw := hw E18
  exact x_zret HE hr dX21_isOnStretch_21 hw.1 hw.2
theorem k_X21_isOnStretch {G : GT} {x0 x1 x2 : Int} {Q : Int → Hp → Prop} {h : Hp} (f0 : Lay_X21 h x0) (l : Launch) (hw : g_X21_isOnStretch x0 x1 x2 Q h) : XM G l yX21_isOnStretch cX21_isOnStretch 3 (some .boolean) 1 22 [rV x0, iV x1, iV x2] (QI Q) h :=
  XM.of (by decide) (Nat.le_of_ble_eq_true rfl) (fun X HE hr hn => w_X21_isOnStretch_0 HE hr f0 hw)
def g_X12_far_b38 (x0 x1 x2 x3 : Int) (Q : Int → Hp → Prop) (s0 s1 : Int) (h : Hp) : Prop :=
  (i32 (s0 + s1)) ∧ (Q (s0 + s1) h)
theorem w_X12_far_38 {G : GT} {X : ET} {h0 : Hp} {x0 x1 x2 x3 : Int} (HE : XE G X cX12_far 4 RX12 1 30 h0) (hr : XR X (some .int)) {Q : Int → Hp → Prop} {s0 s1 : Int} {h : Hp} (hw : g_X12_far_b38 x0 x1 x2 x3 Q s0 s1 h) : Wx G X h0 (QI Q) h 38 [some (rV x0), some (rV x1), some (iV x2), some (iV x3)] [iV s1, iV s0] := by
  refine Wx.start (fun EB => ?_)
  unfold g_X12_far_b38 at hw
  obtain ⟨v38, hw⟩ := hw
  refine x_iadd HE dX12_far_38 v38 ?_
  exact x_iret HE hr dX12_far_39 hw
def g_X12_far (x0 x1 x2 x3 : Int) (Q : Int → Hp → Prop) (h : Hp) : Prop :=
  (Lay_X21 h x1) ∧ (((0 : Int) ≤ x3 ∧ x3 < 10) ∧ (((0 : Int) ≤ x2 ∧ x2 < 4) ∧ ((i32 ((hA h (x1 + 2) x3) - (hA h (x1 + 15) x2))) ∧ ((i32 (0 - ((hA h (x1 + 2) x3) - (hA h (x1 + 15) x2)))) ∧ ((i32 (2 * (if 0 ≤ ((hA h (x1 + 2) x3) - (hA h (x1 + 15) x2)) then ((hA h (x1 + 2) x3) - (hA h (x1 + 15) x2)) else 0 - ((hA h (x1 + 2) x3) - (hA h (x1 + 15) x2))))) ∧ (((0 : Int) ≤ x3 ∧ x3 < 10) ∧ (((0 : Int) ≤ x2 ∧ x2 < 4) ∧ ((((hA h (x1 + 2) x3) ≤ (hA h (x1 + 15) x2)) → (g_X12_far_b38 x0 x1 x2 x3 Q (2 * (if 0 ≤ ((hA h (x1 + 2) x3) - (hA h (x1 + 15) x2)) then ((hA h (x1 + 2) x3) - (hA h (x1 + 15) x2)) else 0 - ((hA h (x1 + 2) x3) - (hA h (x1 + 15) x2)))) 0 h)) ∧ (((hA h (x1 + 15) x2) < (hA h (x1 + 2) x3)) → (g_X12_far_b38 x0 x1 x2 x3 Q (2 * (if 0 ≤ ((hA h (x1 + 2) x3) - (hA h (x1 + 15) x2)) then ((hA h (x1 + 2) x3) - (hA h (x1 + 15) x2)) else 0 - ((hA h (x1 + 2) x3) - (hA h (x1 + 15) x2)))) 1 h))))))))))
theorem w_X12_far_0 {G : GT} {X : ET} {h0 : Hp} {x0 x1 x2 x3 : Int} (HE : XE G X cX12_far 4 RX12 1 30 h0) (hr : XR X (some .int)) {Q : Int → Hp → Prop} {h : Hp} (hw : g_X12_far x0 x1 x2 x3 Q h) : Wx G X h0 (QI Q) h 0 [some (rV x0), some (rV x1), some (iV x2), some (iV x3)] [] := by
  refine Wx.start (fun EB => ?_)
  unfold g_X12_far at hw
  refine x_iconst HE dX12_far_0 (by decide) ?_
  refine x_aload_n HE 1 dX12_far_1 rfl rfl ?_
  obtain ⟨v2, hw⟩ := hw
  refine x_gR HE dX12_far_2 fd_X21_3 q1128 (Or.inl rfl) (Lay_X21.tag v2) (Lay_X21_3 v2).1 ?_
  refine x_iload_n HE 3 dX12_far_5 rfl rfl ?_
  obtain ⟨i6, hw⟩ := hw
  refine x_iald HE dX12_far_6 (t := 1) (by decide) ((Lay_X21_3 v2).2.1) (ix_of ((Lay_X21_3 v2).2.2) i6) rfl ?_
  refine x_aload_n HE 1 dX12_far_7 rfl rfl ?_
  refine x_gR HE dX12_far_8 fd_X21_16 q1157 (Or.inl rfl) (Lay_X21.tag v2) (Lay_X21_16 v2).1 ?_
  refine x_iload_n HE 2 dX12_far_11 rfl rfl ?_
  obtain ⟨i12, hw⟩ := hw
  refine x_iald HE dX12_far_12 (t := 1) (by decide) ((Lay_X21_16 v2).2.1) (ix_of ((Lay_X21_16 v2).2.2) i12) rfl ?_
  obtain ⟨v13, hw⟩ := hw
  refine x_isub HE dX12_far_13 v13 ?_
  obtain ⟨v14, hw⟩ := hw
  refine x_mabs HE dX12_far_14 rfl q1340 q1341 q139 q1342 v14 (Nat.le_of_ble_eq_true rfl) (Nat.le_of_ble_eq_true rfl) (Nat.le_of_ble_eq_true rfl) ?_
  obtain ⟨v17, hw⟩ := hw
  refine x_imul HE dX12_far_17 v17 ?_
  refine x_aload_n HE 1 dX12_far_18 rfl rfl ?_
  refine x_gR HE dX12_far_19 fd_X21_3 q1128 (Or.inl rfl) (Lay_X21.tag v2) (Lay_X21_3 v2).1 ?_
  refine x_iload_n HE 3 dX12_far_22 rfl rfl ?_
  obtain ⟨i23, hw⟩ := hw
  refine x_iald HE dX12_far_23 (t := 1) (by decide) ((Lay_X21_3 v2).2.1) (ix_of ((Lay_X21_3 v2).2.2) i23) rfl ?_
  refine x_aload_n HE 1 dX12_far_24 rfl rfl ?_
  refine x_gR HE dX12_far_25 fd_X21_16 q1157 (Or.inl rfl) (Lay_X21.tag v2) (Lay_X21_16 v2).1 ?_
  refine x_iload_n HE 2 dX12_far_28 rfl rfl ?_
  obtain ⟨i29, hw⟩ := hw
  refine x_iald HE dX12_far_29 (t := 1) (by decide) ((Lay_X21_16 v2).2.1) (ix_of ((Lay_X21_16 v2).2.2) i29) rfl ?_
  refine x_ic_le HE 37 dX12_far_30 (by decide) (fun c30 => ?_) (fun c30 => ?_)
  · have hw := hw.1 c30
    refine x_iconst HE dX12_far_37 (by decide) ?_
    exact w_X12_far_38 HE hr hw
  · have hw := hw.2 c30
    refine x_iconst HE dX12_far_33 (by decide) ?_
    refine x_goto HE 38 dX12_far_34 (by decide) ?_
    exact w_X12_far_38 HE hr hw
theorem k_X12_far {G : GT} {x0 x1 x2 x3 : Int} {Q : Int → Hp → Prop} {h : Hp} (l : Launch) (hw : g_X12_far x0 x1 x2 x3 Q h) : XM G l yX12_far cX12_far 4 (some .int) 1 30 [rV x0, rV x1, iV x2, iV x3] (QI Q) h :=
  XM.of (by decide) (Nat.le_of_ble_eq_true rfl) (fun X HE hr hn => w_X12_far_0 HE hr  hw)
def g_X13_far_b40 (x0 x1 x2 x3 : Int) (Q : Int → Hp → Prop) (s0 : Int) (h : Hp) : Prop :=
  Q s0 h
theorem w_X13_far_40 {G : GT} {X : ET} {h0 : Hp} {x0 x1 x2 x3 : Int} (HE : XE G X cX13_far 4 RX13 0 0 h0) (hr : XR X (some .int)) {Q : Int → Hp → Prop} {s0 : Int} {h : Hp} (hw : g_X13_far_b40 x0 x1 x2 x3 Q s0 h) : Wx G X h0 (QI Q) h 40 [some (rV x0), some (rV x1), some (iV x2), some (iV x3)] [iV s0] := by
  refine Wx.start (fun EB => ?_)
  unfold g_X13_far_b40 at hw
  exact x_iret HE hr dX13_far_40 hw
def g_X13_far (x0 x1 x2 x3 : Int) (Q : Int → Hp → Prop) (h : Hp) : Prop :=
  (Lay_X21 h x1) ∧ (((0 : Int) ≤ x3 ∧ x3 < 10) ∧ (((0 : Int) ≤ x2 ∧ x2 < 4) ∧ ((((hA h (x1 + 2) x3) < (hA h (x1 + 15) x2)) → (((0 : Int) ≤ x3 ∧ x3 < 10) ∧ ((i32 (20 + (hA h (x1 + 2) x3))) ∧ (g_X13_far_b40 x0 x1 x2 x3 Q (20 + (hA h (x1 + 2) x3)) h)))) ∧ (((hA h (x1 + 15) x2) ≤ (hA h (x1 + 2) x3)) → (((0 : Int) ≤ x3 ∧ x3 < 10) ∧ (((0 : Int) ≤ x2 ∧ x2 < 4) ∧ ((i32 ((hA h (x1 + 2) x3) - (hA h (x1 + 15) x2))) ∧ (g_X13_far_b40 x0 x1 x2 x3 Q ((hA h (x1 + 2) x3) - (hA h (x1 + 15) x2)) h))))))))
theorem w_X13_far_0 {G : GT} {X : ET} {h0 : Hp} {x0 x1 x2 x3 : Int} (HE : XE G X cX13_far 4 RX13 0 0 h0) (hr : XR X (some .int)) {Q : Int → Hp → Prop} {h : Hp} (hw : g_X13_far x0 x1 x2 x3 Q h) : Wx G X h0 (QI Q) h 0 [some (rV x0), some (rV x1), some (iV x2), some (iV x3)] [] := by
  refine Wx.start (fun EB => ?_)
  unfold g_X13_far at hw
  refine x_aload_n HE 1 dX13_far_0 rfl rfl ?_
  obtain ⟨v1, hw⟩ := hw
  refine x_gR HE dX13_far_1 fd_X21_3 q1127 (Or.inl rfl) (Lay_X21.tag v1) (Lay_X21_3 v1).1 ?_
  refine x_iload_n HE 3 dX13_far_4 rfl rfl ?_
  obtain ⟨i5, hw⟩ := hw
  refine x_iald HE dX13_far_5 (t := 1) (by decide) ((Lay_X21_3 v1).2.1) (ix_of ((Lay_X21_3 v1).2.2) i5) rfl ?_
  refine x_aload_n HE 1 dX13_far_6 rfl rfl ?_
  refine x_gR HE dX13_far_7 fd_X21_16 q1156 (Or.inl rfl) (Lay_X21.tag v1) (Lay_X21_16 v1).1 ?_
  refine x_iload_n HE 2 dX13_far_10 rfl rfl ?_
  obtain ⟨i11, hw⟩ := hw
  refine x_iald HE dX13_far_11 (t := 1) (by decide) ((Lay_X21_16 v1).2.1) (ix_of ((Lay_X21_16 v1).2.2) i11) rfl ?_
  refine x_ic_lt HE 31 dX13_far_12 (by decide) (fun c12 => ?_) (fun c12 => ?_)
  · have hw := hw.1 c12
    refine x_bipush HE dX13_far_31 (by decide) ?_
    refine x_aload_n HE 1 dX13_far_33 rfl rfl ?_
    refine x_gR HE dX13_far_34 fd_X21_3 q1127 (Or.inl rfl) (Lay_X21.tag v1) (Lay_X21_3 v1).1 ?_
    refine x_iload_n HE 3 dX13_far_37 rfl rfl ?_
    obtain ⟨i38, hw⟩ := hw
    refine x_iald HE dX13_far_38 (t := 1) (by decide) ((Lay_X21_3 v1).2.1) (ix_of ((Lay_X21_3 v1).2.2) i38) rfl ?_
    obtain ⟨v39, hw⟩ := hw
    refine x_iadd HE dX13_far_39 v39 ?_
    exact w_X13_far_40 HE hr hw
  · have hw := hw.2 c12
    refine x_aload_n HE 1 dX13_far_15 rfl rfl ?_
    refine x_gR HE dX13_far_16 fd_X21_3 q1127 (Or.inl rfl) (Lay_X21.tag v1) (Lay_X21_3 v1).1 ?_
    refine x_iload_n HE 3 dX13_far_19 rfl rfl ?_
    obtain ⟨i20, hw⟩ := hw
    refine x_iald HE dX13_far_20 (t := 1) (by decide) ((Lay_X21_3 v1).2.1) (ix_of ((Lay_X21_3 v1).2.2) i20) rfl ?_
    refine x_aload_n HE 1 dX13_far_21 rfl rfl ?_
    refine x_gR HE dX13_far_22 fd_X21_16 q1156 (Or.inl rfl) (Lay_X21.tag v1) (Lay_X21_16 v1).1 ?_
    refine x_iload_n HE 2 dX13_far_25 rfl rfl ?_
    obtain ⟨i26, hw⟩ := hw
    refine x_iald HE dX13_far_26 (t := 1) (by decide) ((Lay_X21_16 v1).2.1) (ix_of ((Lay_X21_16 v1).2.2) i26) rfl ?_
    obtain ⟨v27, hw⟩ := hw
    refine x_isub HE dX13_far_27 v27 ?_
    refine x_goto HE 40 dX13_far_28 (by decide) ?_
    exact w_X13_far_40 HE hr hw
theorem k_X13_far {G : GT} {x0 x1 x2 x3 : Int} {Q : Int → Hp → Prop} {h : Hp} (l : Launch) (hw : g_X13_far x0 x1 x2 x3 Q h) : XM G l yX13_far cX13_far 4 (some .int) 0 0 [rV x0, rV x1, iV x2, iV x3] (QI Q) h :=
  XM.of (by decide) (Nat.le_of_ble_eq_true rfl) (fun X HE hr hn => w_X13_far_0 HE hr  hw)
def g_X14_far (x0 x1 x2 x3 : Int) (Q : Int → Hp → Prop) (h : Hp) : Prop :=
  (Lay_X21 h x1) ∧ (((0 : Int) ≤ x3 ∧ x3 < 10) ∧ ((i32 (99 - (hA h (x1 + 3) x3))) ∧ (Q (99 - (hA h (x1 + 3) x3)) h)))
theorem w_X14_far_0 {G : GT} {X : ET} {h0 : Hp} {x0 x1 x2 x3 : Int} (HE : XE G X cX14_far 4 RX14 0 0 h0) (hr : XR X (some .int)) {Q : Int → Hp → Prop} {h : Hp} (hw : g_X14_far x0 x1 x2 x3 Q h) : Wx G X h0 (QI Q) h 0 [some (rV x0), some (rV x1), some (iV x2), some (iV x3)] [] := by
  refine Wx.start (fun EB => ?_)
  unfold g_X14_far at hw
  refine x_bipush HE dX14_far_0 (by decide) ?_
  refine x_aload_n HE 1 dX14_far_2 rfl rfl ?_
  obtain ⟨v3, hw⟩ := hw
  refine x_gR HE dX14_far_3 fd_X21_4 q1131 (Or.inl rfl) (Lay_X21.tag v3) (Lay_X21_4 v3).1 ?_
  refine x_iload_n HE 3 dX14_far_6 rfl rfl ?_
  obtain ⟨i7, hw⟩ := hw
  refine x_iald HE dX14_far_7 (t := 1) (by decide) ((Lay_X21_4 v3).2.1) (ix_of ((Lay_X21_4 v3).2.2) i7) rfl ?_
  obtain ⟨v8, hw⟩ := hw
  refine x_isub HE dX14_far_8 v8 ?_
  exact x_iret HE hr dX14_far_9 hw
theorem k_X14_far {G : GT} {x0 x1 x2 x3 : Int} {Q : Int → Hp → Prop} {h : Hp} (l : Launch) (hw : g_X14_far x0 x1 x2 x3 Q h) : XM G l yX14_far cX14_far 4 (some .int) 0 0 [rV x0, rV x1, iV x2, iV x3] (QI Q) h :=
  XM.of (by decide) (Nat.le_of_ble_eq_true rfl) (fun X HE hr hn => w_X14_far_0 HE hr  hw)
def g_X15_far (x0 x1 x2 x3 : Int) (Q : Int → Hp → Prop) (h : Hp) : Prop :=
  (Lay_X21 h x1) ∧ (((0 : Int) ≤ x3 ∧ x3 < 10) ∧ (Q (hA h (x1 + 4) x3) h))
theorem w_X15_far_0 {G : GT} {X : ET} {h0 : Hp} {x0 x1 x2 x3 : Int} (HE : XE G X cX15_far 4 RX15 0 0 h0) (hr : XR X (some .int)) {Q : Int → Hp → Prop} {h : Hp} (hw : g_X15_far x0 x1 x2 x3 Q h) : Wx G X h0 (QI Q) h 0 [some (rV x0), some (rV x1), some (iV x2), some (iV x3)] [] := by
  refine Wx.start (fun EB => ?_)
  unfold g_X15_far at hw
  refine x_aload_n HE 1 dX15_far_0 rfl rfl ?_
  obtain ⟨v1, hw⟩ := hw
  refine x_gR HE dX15_far_1 fd_X21_5 q1134 (Or.inl rfl) (Lay_X21.tag v1) (Lay_X21_5 v1).1 ?_
  refine x_iload_n HE 3 dX15_far_4 rfl rfl ?_
  obtain ⟨i5, hw⟩ := hw
  refine x_iald HE dX15_far_5 (t := 1) (by decide) ((Lay_X21_5 v1).2.1) (ix_of ((Lay_X21_5 v1).2.2) i5) rfl ?_
  exact x_iret HE hr dX15_far_6 hw
theorem k_X15_far {G : GT} {x0 x1 x2 x3 : Int} {Q : Int → Hp → Prop} {h : Hp} (l : Launch) (hw : g_X15_far x0 x1 x2 x3 Q h) : XM G l yX15_far cX15_far 4 (some .int) 0 0 [rV x0, rV x1, iV x2, iV x3] (QI Q) h :=
  XM.of (by decide) (Nat.le_of_ble_eq_true rfl) (fun X HE hr hn => w_X15_far_0 HE hr  hw)
def g_X16_far_b14 (x0 x1 x2 x3 : Int) (Q : Int → Hp → Prop) (s0 : Int) (h : Hp) : Prop :=
  Q s0 h
theorem w_X16_far_14 {G : GT} {X : ET} {h0 : Hp} {x0 x1 x2 x3 : Int} (HE : XE G X cX16_far 4 RX16 0 0 h0) (hr : XR X (some .int)) {Q : Int → Hp → Prop} {s0 : Int} {h : Hp} (hw : g_X16_far_b14 x0 x1 x2 x3 Q s0 h) : Wx G X h0 (QI Q) h 14 [some (rV x0), some (rV x1), some (iV x2), some (iV x3)] [iV s0] := by
  refine Wx.start (fun EB => ?_)
  unfold g_X16_far_b14 at hw
  exact x_iret HE hr dX16_far_14 hw
def g_X16_far (x0 x1 x2 x3 : Int) (Q : Int → Hp → Prop) (h : Hp) : Prop :=
  (Lay_X21 h x1) ∧ (((0 : Int) ≤ x3 ∧ x3 < 10) ∧ ((((hA h (x1 + 13) x3) = 0) → (g_X16_far_b14 x0 x1 x2 x3 Q 1 h)) ∧ (((hA h (x1 + 13) x3) ≠ 0) → (g_X16_far_b14 x0 x1 x2 x3 Q 0 h))))
theorem w_X16_far_0 {G : GT} {X : ET} {h0 : Hp} {x0 x1 x2 x3 : Int} (HE : XE G X cX16_far 4 RX16 0 0 h0) (hr : XR X (some .int)) {Q : Int → Hp → Prop} {h : Hp} (hw : g_X16_far x0 x1 x2 x3 Q h) : Wx G X h0 (QI Q) h 0 [some (rV x0), some (rV x1), some (iV x2), some (iV x3)] [] := by
  refine Wx.start (fun EB => ?_)
  unfold g_X16_far at hw
  refine x_aload_n HE 1 dX16_far_0 rfl rfl ?_
  obtain ⟨v1, hw⟩ := hw
  refine x_gR HE dX16_far_1 fd_X21_14 q1152 (Or.inl rfl) (Lay_X21.tag v1) (Lay_X21_14 v1).1 ?_
  refine x_iload_n HE 3 dX16_far_4 rfl rfl ?_
  obtain ⟨i5, hw⟩ := hw
  refine x_zald HE dX16_far_5 ((Lay_X21_14 v1).2.1) (ix_of ((Lay_X21_14 v1).2.2) i5) rfl ?_
  refine x_if_eq HE 13 dX16_far_6 (by decide) (fun c6 => ?_) (fun c6 => ?_)
  · have hw := hw.1 c6
    refine x_iconst HE dX16_far_13 (by decide) ?_
    exact w_X16_far_14 HE hr hw
  · have hw := hw.2 c6
    refine x_iconst HE dX16_far_9 (by decide) ?_
    refine x_goto HE 14 dX16_far_10 (by decide) ?_
    exact w_X16_far_14 HE hr hw
theorem k_X16_far {G : GT} {x0 x1 x2 x3 : Int} {Q : Int → Hp → Prop} {h : Hp} (l : Launch) (hw : g_X16_far x0 x1 x2 x3 Q h) : XM G l yX16_far cX16_far 4 (some .int) 0 0 [rV x0, rV x1, iV x2, iV x3] (QI Q) h :=
  XM.of (by decide) (Nat.le_of_ble_eq_true rfl) (fun X HE hr hn => w_X16_far_0 HE hr  hw)
def g_X17_isAhead_b32 (x0 x1 x2 x3 : Int) (Q : Int → Hp → Prop) (s0 : Int) (h : Hp) : Prop :=
  (s0 = 0 ∨ s0 = 1) ∧ Q s0 h
theorem w_X17_isAhead_32 {G : GT} {X : ET} {h0 : Hp} {x0 x1 x2 x3 : Int} (HE : XE G X cX17_isAhead 4 RX17 0 0 h0) (hr : XR X (some .boolean)) (f0 : Lay_X17 h0 x0) {Q : Int → Hp → Prop} {s0 : Int} {h : Hp} (hw : g_X17_isAhead_b32 x0 x1 x2 x3 Q s0 h) : Wx G X h0 (QI Q) h 32 [some (rV x0), some (rV x1), some (iV x2), some (iV x3)] [iV s0] := by
  refine Wx.start (fun EB => ?_)
  unfold g_X17_isAhead_b32 at hw
  exact x_zret HE hr dX17_isAhead_32 hw.1 hw.2
def g_X17_isAhead_b31 (x0 x1 x2 x3 : Int) (Q : Int → Hp → Prop) (h : Hp) : Prop :=
  g_X17_isAhead_b32 x0 x1 x2 x3 Q 0 h
theorem w_X17_isAhead_31 {G : GT} {X : ET} {h0 : Hp} {x0 x1 x2 x3 : Int} (HE : XE G X cX17_isAhead 4 RX17 0 0 h0) (hr : XR X (some .boolean)) (f0 : Lay_X17 h0 x0) {Q : Int → Hp → Prop} {h : Hp} (hw : g_X17_isAhead_b31 x0 x1 x2 x3 Q  h) : Wx G X h0 (QI Q) h 31 [some (rV x0), some (rV x1), some (iV x2), some (iV x3)] [] := by
  refine Wx.start (fun EB => ?_)
  unfold g_X17_isAhead_b31 at hw
  refine x_iconst HE dX17_isAhead_31 (by decide) ?_
  exact w_X17_isAhead_32 HE hr f0 hw
def g_X17_isAhead_b27 (x0 x1 x2 x3 : Int) (Q : Int → Hp → Prop) (h : Hp) : Prop :=
  g_X17_isAhead_b32 x0 x1 x2 x3 Q 1 h
theorem w_X17_isAhead_27 {G : GT} {X : ET} {h0 : Hp} {x0 x1 x2 x3 : Int} (HE : XE G X cX17_isAhead 4 RX17 0 0 h0) (hr : XR X (some .boolean)) (f0 : Lay_X17 h0 x0) {Q : Int → Hp → Prop} {h : Hp} (hw : g_X17_isAhead_b27 x0 x1 x2 x3 Q  h) : Wx G X h0 (QI Q) h 27 [some (rV x0), some (rV x1), some (iV x2), some (iV x3)] [] := by
  refine Wx.start (fun EB => ?_)
  unfold g_X17_isAhead_b27 at hw
  refine x_iconst HE dX17_isAhead_27 (by decide) ?_
  refine x_goto HE 32 dX17_isAhead_28 (by decide) ?_
  exact w_X17_isAhead_32 HE hr f0 hw
def g_X17_isAhead (x0 x1 x2 x3 : Int) (Q : Int → Hp → Prop) (h : Hp) : Prop :=
  (Lay_X17 h x1) ∧ ((((hF h x0 3) < (hF h x1 3)) → (g_X17_isAhead_b27 x0 x1 x2 x3 Q h)) ∧ (((hF h x1 3) ≤ (hF h x0 3)) → ((((hF h x0 3) ≠ (hF h x1 3)) → (g_X17_isAhead_b31 x0 x1 x2 x3 Q h)) ∧ (((hF h x0 3) = (hF h x1 3)) → (((x3 ≤ x2) → (g_X17_isAhead_b31 x0 x1 x2 x3 Q h)) ∧ ((x2 < x3) → (g_X17_isAhead_b27 x0 x1 x2 x3 Q h)))))))
theorem w_X17_isAhead_0 {G : GT} {X : ET} {h0 : Hp} {x0 x1 x2 x3 : Int} (HE : XE G X cX17_isAhead 4 RX17 0 0 h0) (hr : XR X (some .boolean)) (f0 : Lay_X17 h0 x0) {Q : Int → Hp → Prop} {h : Hp} (hw : g_X17_isAhead x0 x1 x2 x3 Q h) : Wx G X h0 (QI Q) h 0 [some (rV x0), some (rV x1), some (iV x2), some (iV x3)] [] := by
  refine Wx.start (fun EB => ?_)
  unfold g_X17_isAhead at hw
  refine x_aload_n HE 0 dX17_isAhead_0 rfl rfl ?_
  refine x_gI HE dX17_isAhead_1 fd_X17_3 q985 (Or.inl rfl) (Lay_X17.tag (f0.ext EB)) rfl ?_
  refine x_aload_n HE 1 dX17_isAhead_4 rfl rfl ?_
  obtain ⟨v5, hw⟩ := hw
  refine x_gI HE dX17_isAhead_5 fd_X17_3 q985 (Or.inl rfl) (Lay_X17.tag v5) rfl ?_
  refine x_ic_lt HE 27 dX17_isAhead_8 (by decide) (fun c8 => ?_) (fun c8 => ?_)
  · have hw := hw.1 c8
    exact w_X17_isAhead_27 HE hr f0 hw
  · have hw := hw.2 c8
    refine x_aload_n HE 0 dX17_isAhead_11 rfl rfl ?_
    refine x_gI HE dX17_isAhead_12 fd_X17_3 q985 (Or.inl rfl) (Lay_X17.tag (f0.ext EB)) rfl ?_
    refine x_aload_n HE 1 dX17_isAhead_15 rfl rfl ?_
    refine x_gI HE dX17_isAhead_16 fd_X17_3 q985 (Or.inl rfl) (Lay_X17.tag v5) rfl ?_
    refine x_ic_ne HE 31 dX17_isAhead_19 (by decide) (fun c19 => ?_) (fun c19 => ?_)
    · have hw := hw.1 c19
      exact w_X17_isAhead_31 HE hr f0 hw
    · have hw := hw.2 c19
      refine x_iload_n HE 2 dX17_isAhead_22 rfl rfl ?_
      refine x_iload_n HE 3 dX17_isAhead_23 rfl rfl ?_
      refine x_ic_ge HE 31 dX17_isAhead_24 (by decide) (fun c24 => ?_) (fun c24 => ?_)
      · have hw := hw.1 c24
        exact w_X17_isAhead_31 HE hr f0 hw
      · have hw := hw.2 c24
        exact w_X17_isAhead_27 HE hr f0 hw
theorem k_X17_isAhead {G : GT} {x0 x1 x2 x3 : Int} {Q : Int → Hp → Prop} {h : Hp} (f0 : Lay_X17 h x0) (l : Launch) (hw : g_X17_isAhead x0 x1 x2 x3 Q h) : XM G l yX17_isAhead cX17_isAhead 4 (some .boolean) 0 0 [rV x0, rV x1, iV x2, iV x3] (QI Q) h :=
  XM.of (by decide) (Nat.le_of_ble_eq_true rfl) (fun X HE hr hn => w_X17_isAhead_0 HE hr f0 hw)
def g_X7_isAhead (x0 x1 x2 : Int) (Q : Int → Hp → Prop) (h : Hp) : Prop :=
  g_J2_get (x0 + 3) x1 (fun r5 m5 => Ext h m5 → ((Lay_X17 m5 r5) ∧ (g_J2_get (x0 + 3) x2 (fun r16 m16 => Ext m5 m16 → ((Lay_X17 m16 r16) ∧ (g_X17_isAhead r5 r16 x1 x2 (fun r24 m24 => Ext m16 m24 → ((r24 = 0 ∨ r24 = 1) ∧ Q r24 m24)) m16))) m5))) h
theorem w_X7_isAhead_0 {G : GT} {X : ET} {h0 : Hp} {x0 x1 x2 : Int} (HE : XE G X cX7_isAhead 3 RX7 3 64 h0) (hr : XR X (some .boolean)) (f0 : Lay_X7 h0 x0) {Q : Int → Hp → Prop} {h : Hp} (hw : g_X7_isAhead x0 x1 x2 Q h) : Wx G X h0 (QI Q) h 0 [some (rV x0), some (iV x1), some (iV x2)] [] := by
  refine Wx.start (fun EB => ?_)
  unfold g_X7_isAhead at hw
  refine x_aload_n HE 0 dX7_isAhead_0 rfl rfl ?_
  refine x_gR HE dX7_isAhead_1 fd_X7_5 q327 (Or.inl rfl) (Lay_X7.tag (f0.ext EB)) (Lay_X7_5 (f0.ext EB)).1 ?_
  refine x_iload_n HE 1 dX7_isAhead_4 rfl rfl ?_
  refine x_callV HE dX7_isAhead_5 rfl (fun l => k_J2_get ((Lay_X7_5 (f0.ext EB)).2) l hw) (As := [iV x1]) (rest := []) rfl xc32 ((Lay_X7_5 (f0.ext EB)).2) (lw_V q735 q736 q737 q128 q738) hy_J2_get rfl rfl (Nat.le_of_ble_eq_true rfl) (Nat.le_of_ble_eq_true rfl) (Nat.le_of_ble_eq_true rfl) (kkR (fun r5 m5 E5 hw => ?_))
  have hw := hw E5
  obtain ⟨v8, hw⟩ := hw
  refine x_castS HE dX7_isAhead_8 xc14 q758 (Lay_X17.tag v8) ?_
  refine x_aload_n HE 0 dX7_isAhead_11 rfl rfl ?_
  refine x_gR HE dX7_isAhead_12 fd_X7_5 q327 (Or.inl rfl) (Lay_X7.tag (f0.ext (EB.tr E5))) (Lay_X7_5 (f0.ext (EB.tr E5))).1 ?_
  refine x_iload_n HE 2 dX7_isAhead_15 rfl rfl ?_
  refine x_callV HE dX7_isAhead_16 rfl (fun l => k_J2_get ((Lay_X7_5 (f0.ext (EB.tr E5))).2) l hw) (As := [iV x2]) (rest := [rV r5]) rfl xc32 ((Lay_X7_5 (f0.ext (EB.tr E5))).2) (lw_V q735 q736 q737 q128 q738) hy_J2_get rfl rfl (Nat.le_of_ble_eq_true rfl) (Nat.le_of_ble_eq_true rfl) (Nat.le_of_ble_eq_true rfl) (kkR (fun r16 m16 E16 hw => ?_))
  have hw := hw E16
  obtain ⟨v19, hw⟩ := hw
  refine x_castS HE dX7_isAhead_19 xc14 q758 (Lay_X17.tag v19) ?_
  refine x_iload_n HE 1 dX7_isAhead_22 rfl rfl ?_
  refine x_iload_n HE 2 dX7_isAhead_23 rfl rfl ?_
  refine x_callV HE dX7_isAhead_24 rfl (fun l => k_X17_isAhead (v8.ext E16) l hw) (As := [rV r16, iV x1, iV x2]) (rest := []) rfl xc14 (Lay_X17.tag (v8.ext E16)) (lw_V q1353 q1354 q1355 q153 q1356) hy_X17_isAhead rfl rfl (Nat.le_of_ble_eq_true rfl) (Nat.le_of_ble_eq_true rfl) (Nat.le_of_ble_eq_true rfl) (kkI (fun r24 m24 E24 hw => ?_))
  have hw := hw E24
  exact x_zret HE hr dX7_isAhead_27 hw.1 hw.2
theorem k_X7_isAhead {G : GT} {x0 x1 x2 : Int} {Q : Int → Hp → Prop} {h : Hp} (f0 : Lay_X7 h x0) (l : Launch) (hw : g_X7_isAhead x0 x1 x2 Q h) : XM G l yX7_isAhead cX7_isAhead 3 (some .boolean) 3 64 [rV x0, iV x1, iV x2] (QI Q) h :=
  XM.of (by decide) (Nat.le_of_ble_eq_true rfl) (fun X HE hr hn => w_X7_isAhead_0 HE hr f0 hw)
def g_X21_isSooner_b59 (x0 x1 x2 x3 : Int) (Q : Int → Hp → Prop) (s0 : Int) (h : Hp) : Prop :=
  (s0 = 0 ∨ s0 = 1) ∧ Q s0 h
theorem w_X21_isSooner_59 {G : GT} {X : ET} {h0 : Hp} {x0 x1 x2 x3 : Int} (HE : XE G X cX21_isSooner 6 RX21 4 86 h0) (hr : XR X (some .boolean)) (f0 : Lay_X21 h0 x0) {Q : Int → Hp → Prop} {s0 : Int} {h : Hp} (hw : g_X21_isSooner_b59 x0 x1 x2 x3 Q s0 h) : Wx G X h0 (QI Q) h 59 [some (rV x0), some (iV x1), some (iV x2), some (iV x3), none, none] [iV s0] := by
  refine Wx.start (fun EB => ?_)
  unfold g_X21_isSooner_b59 at hw
  exact x_zret HE hr dX21_isSooner_59 hw.1 hw.2
def g_X21_isSooner_b58 (x0 x1 x2 x3 : Int) (Q : Int → Hp → Prop) (h : Hp) : Prop :=
  g_X21_isSooner_b59 x0 x1 x2 x3 Q 0 h
theorem w_X21_isSooner_58 {G : GT} {X : ET} {h0 : Hp} {x0 x1 x2 x3 : Int} (HE : XE G X cX21_isSooner 6 RX21 4 86 h0) (hr : XR X (some .boolean)) (f0 : Lay_X21 h0 x0) {Q : Int → Hp → Prop} {h : Hp} (hw : g_X21_isSooner_b58 x0 x1 x2 x3 Q  h) : Wx G X h0 (QI Q) h 58 [some (rV x0), some (iV x1), some (iV x2), some (iV x3), none, none] [] := by
  refine Wx.start (fun EB => ?_)
  unfold g_X21_isSooner_b58 at hw
  refine x_iconst HE dX21_isSooner_58 (by decide) ?_
  exact w_X21_isSooner_59 HE hr f0 hw
def g_X21_isSooner_b54 (x0 x1 x2 x3 : Int) (Q : Int → Hp → Prop) (h : Hp) : Prop :=
  g_X21_isSooner_b59 x0 x1 x2 x3 Q 1 h
theorem w_X21_isSooner_54 {G : GT} {X : ET} {h0 : Hp} {x0 x1 x2 x3 : Int} (HE : XE G X cX21_isSooner 6 RX21 4 86 h0) (hr : XR X (some .boolean)) (f0 : Lay_X21 h0 x0) {Q : Int → Hp → Prop} {h : Hp} (hw : g_X21_isSooner_b54 x0 x1 x2 x3 Q  h) : Wx G X h0 (QI Q) h 54 [some (rV x0), some (iV x1), some (iV x2), some (iV x3), none, none] [] := by
  refine Wx.start (fun EB => ?_)
  unfold g_X21_isSooner_b54 at hw
  refine x_iconst HE dX21_isSooner_54 (by decide) ?_
  refine x_goto HE 59 dX21_isSooner_55 (by decide) ?_
  exact w_X21_isSooner_59 HE hr f0 hw
def g_X21_isSooner (x0 x1 x2 x3 : Int) (Q : Int → Hp → Prop) (h : Hp) : Prop :=
  ((0 : Int) ≤ x1 ∧ x1 < 4) ∧ (∀ K_9 : Int → Hp → Prop, K_9 = (fun (r9 : Int) (m9 : Hp) => Ext h m9 → (((0 : Int) ≤ x1 ∧ x1 < 4) ∧ (∀ K_23 : Int → Hp → Prop, K_23 = (fun (r23 : Int) (m23 : Hp) => Ext m9 m23 → (((r9 < r23) → (g_X21_isSooner_b54 x0 x1 x2 x3 Q m23)) ∧ ((r23 ≤ r9) → (((r9 ≠ r23) → (g_X21_isSooner_b58 x0 x1 x2 x3 Q m23)) ∧ ((r9 = r23) → ((Lay_X7 m23 (hF m23 x0 0)) ∧ (g_X7_isAhead (hF m23 x0 0) x2 x3 (fun r48 m48 => Ext m23 m48 → (((r48 = 0) → (g_X21_isSooner_b58 x0 x1 x2 x3 Q m48)) ∧ ((r48 ≠ 0) → (g_X21_isSooner_b54 x0 x1 x2 x3 Q m48)))) m23))))))) → ((hT m9 (hA m9 (x0 + 14) x1) = 27 ∨ hT m9 (hA m9 (x0 + 14) x1) = 28 ∨ hT m9 (hA m9 (x0 + 14) x1) = 29 ∨ hT m9 (hA m9 (x0 + 14) x1) = 30 ∨ hT m9 (hA m9 (x0 + 14) x1) = 31) ∧ (hT m9 (hA m9 (x0 + 14) x1) = 27 → g_X12_far (hA m9 (x0 + 14) x1) x0 x1 x3 K_23 m9) ∧ (hT m9 (hA m9 (x0 + 14) x1) = 28 → g_X13_far (hA m9 (x0 + 14) x1) x0 x1 x3 K_23 m9) ∧ (hT m9 (hA m9 (x0 + 14) x1) = 29 → g_X14_far (hA m9 (x0 + 14) x1) x0 x1 x3 K_23 m9) ∧ (hT m9 (hA m9 (x0 + 14) x1) = 30 → g_X15_far (hA m9 (x0 + 14) x1) x0 x1 x3 K_23 m9) ∧ (hT m9 (hA m9 (x0 + 14) x1) = 31 → g_X16_far (hA m9 (x0 + 14) x1) x0 x1 x3 K_23 m9))))) → ((hT h (hA h (x0 + 14) x1) = 27 ∨ hT h (hA h (x0 + 14) x1) = 28 ∨ hT h (hA h (x0 + 14) x1) = 29 ∨ hT h (hA h (x0 + 14) x1) = 30 ∨ hT h (hA h (x0 + 14) x1) = 31) ∧ (hT h (hA h (x0 + 14) x1) = 27 → g_X12_far (hA h (x0 + 14) x1) x0 x1 x2 K_9 h) ∧ (hT h (hA h (x0 + 14) x1) = 28 → g_X13_far (hA h (x0 + 14) x1) x0 x1 x2 K_9 h) ∧ (hT h (hA h (x0 + 14) x1) = 29 → g_X14_far (hA h (x0 + 14) x1) x0 x1 x2 K_9 h) ∧ (hT h (hA h (x0 + 14) x1) = 30 → g_X15_far (hA h (x0 + 14) x1) x0 x1 x2 K_9 h) ∧ (hT h (hA h (x0 + 14) x1) = 31 → g_X16_far (hA h (x0 + 14) x1) x0 x1 x2 K_9 h)))
theorem w_X21_isSooner_0 {G : GT} {X : ET} {h0 : Hp} {x0 x1 x2 x3 : Int} (HE : XE G X cX21_isSooner 6 RX21 4 86 h0) (hr : XR X (some .boolean)) (f0 : Lay_X21 h0 x0) {Q : Int → Hp → Prop} {h : Hp} (hw : g_X21_isSooner x0 x1 x2 x3 Q h) : Wx G X h0 (QI Q) h 0 [some (rV x0), some (iV x1), some (iV x2), some (iV x3), none, none] [] := by
  refine Wx.start (fun EB => ?_)
  unfold g_X21_isSooner at hw
  refine x_aload_n HE 0 dX21_isSooner_0 rfl rfl ?_
  refine x_gR HE dX21_isSooner_1 fd_X21_15 q1153 (Or.inl rfl) (Lay_X21.tag (f0.ext EB)) (Lay_X21_15 (f0.ext EB)).1 ?_
  refine x_iload_n HE 1 dX21_isSooner_4 rfl rfl ?_
  obtain ⟨i5, hw⟩ := hw
  refine x_aald HE dX21_isSooner_5 (t := 6) (by decide) ((Lay_X21_15 (f0.ext EB)).2.1) (ix_of ((Lay_X21_15 (f0.ext EB)).2.2) i5) rfl ?_
  refine x_aload_n HE 0 dX21_isSooner_6 rfl rfl ?_
  refine x_iload_n HE 1 dX21_isSooner_7 rfl rfl ?_
  refine x_iload_n HE 2 dX21_isSooner_8 rfl rfl ?_
  have hw := hw _ rfl
  have hk9 : ∀ (r9 : Int) (m9 : Hp), Ext h m9 → (((0 : Int) ≤ x1 ∧ x1 < 4) ∧ (∀ K_23 : Int → Hp → Prop, K_23 = (fun (r23 : Int) (m23 : Hp) => Ext m9 m23 → (((r9 < r23) → (g_X21_isSooner_b54 x0 x1 x2 x3 Q m23)) ∧ ((r23 ≤ r9) → (((r9 ≠ r23) → (g_X21_isSooner_b58 x0 x1 x2 x3 Q m23)) ∧ ((r9 = r23) → ((Lay_X7 m23 (hF m23 x0 0)) ∧ (g_X7_isAhead (hF m23 x0 0) x2 x3 (fun r48 m48 => Ext m23 m48 → (((r48 = 0) → (g_X21_isSooner_b58 x0 x1 x2 x3 Q m48)) ∧ ((r48 ≠ 0) → (g_X21_isSooner_b54 x0 x1 x2 x3 Q m48)))) m23))))))) → ((hT m9 (hA m9 (x0 + 14) x1) = 27 ∨ hT m9 (hA m9 (x0 + 14) x1) = 28 ∨ hT m9 (hA m9 (x0 + 14) x1) = 29 ∨ hT m9 (hA m9 (x0 + 14) x1) = 30 ∨ hT m9 (hA m9 (x0 + 14) x1) = 31) ∧ (hT m9 (hA m9 (x0 + 14) x1) = 27 → g_X12_far (hA m9 (x0 + 14) x1) x0 x1 x3 K_23 m9) ∧ (hT m9 (hA m9 (x0 + 14) x1) = 28 → g_X13_far (hA m9 (x0 + 14) x1) x0 x1 x3 K_23 m9) ∧ (hT m9 (hA m9 (x0 + 14) x1) = 29 → g_X14_far (hA m9 (x0 + 14) x1) x0 x1 x3 K_23 m9) ∧ (hT m9 (hA m9 (x0 + 14) x1) = 30 → g_X15_far (hA m9 (x0 + 14) x1) x0 x1 x3 K_23 m9) ∧ (hT m9 (hA m9 (x0 + 14) x1) = 31 → g_X16_far (hA m9 (x0 + 14) x1) x0 x1 x3 K_23 m9)))) → Wx G X h0 (QI Q) m9 12 [some (rV x0), some (iV x1), some (iV x2), some (iV x3), none, none] (iV r9 :: []) := by
    intro r9 m9 E9 hw
    refine x_istore HE (lo' := [some (rV x0), some (iV x1), some (iV x2), some (iV x3), some (iV r9), none]) dX21_isSooner_12 (Nat.le_of_ble_eq_true rfl) rfl ?_
    refine x_aload_n HE 0 dX21_isSooner_14 rfl rfl ?_
    refine x_gR HE dX21_isSooner_15 fd_X21_15 q1153 (Or.inl rfl) (Lay_X21.tag (f0.ext (EB.tr E9))) (Lay_X21_15 (f0.ext (EB.tr E9))).1 ?_
    refine x_iload_n HE 1 dX21_isSooner_18 rfl rfl ?_
    obtain ⟨i19, hw⟩ := hw
    refine x_aald HE dX21_isSooner_19 (t := 6) (by decide) ((Lay_X21_15 (f0.ext (EB.tr E9))).2.1) (ix_of ((Lay_X21_15 (f0.ext (EB.tr E9))).2.2) i19) rfl ?_
    refine x_aload_n HE 0 dX21_isSooner_20 rfl rfl ?_
    refine x_iload_n HE 1 dX21_isSooner_21 rfl rfl ?_
    refine x_iload_n HE 3 dX21_isSooner_22 rfl rfl ?_
    have hw := hw _ rfl
    have hk23 : ∀ (r23 : Int) (m23 : Hp), Ext m9 m23 → (((r9 < r23) → (g_X21_isSooner_b54 x0 x1 x2 x3 Q m23)) ∧ ((r23 ≤ r9) → (((r9 ≠ r23) → (g_X21_isSooner_b58 x0 x1 x2 x3 Q m23)) ∧ ((r9 = r23) → ((Lay_X7 m23 (hF m23 x0 0)) ∧ (g_X7_isAhead (hF m23 x0 0) x2 x3 (fun r48 m48 => Ext m23 m48 → (((r48 = 0) → (g_X21_isSooner_b58 x0 x1 x2 x3 Q m48)) ∧ ((r48 ≠ 0) → (g_X21_isSooner_b54 x0 x1 x2 x3 Q m48)))) m23)))))) → Wx G X h0 (QI Q) m23 26 [some (rV x0), some (iV x1), some (iV x2), some (iV x3), some (iV r9), none] (iV r23 :: []) := by
      intro r23 m23 E23 hw
      refine x_istore HE (lo' := [some (rV x0), some (iV x1), some (iV x2), some (iV x3), some (iV r9), some (iV r23)]) dX21_isSooner_26 (Nat.le_of_ble_eq_true rfl) rfl ?_
      refine x_iload HE dX21_isSooner_28 rfl ?_
      refine x_iload HE dX21_isSooner_30 rfl ?_
      refine x_ic_lt HE 54 dX21_isSooner_32 (by decide) (fun c32 => ?_) (fun c32 => ?_)
      · have hw := hw.1 c32
        refine Wx.mask [true, true, true, true, false, false] (lo2 := [some (rV x0), some (iV x1), some (iV x2), some (iV x3), none, none]) rfl ?_
        exact w_X21_isSooner_54 HE hr f0 hw
      · have hw := hw.2 c32
        refine x_iload HE dX21_isSooner_35 rfl ?_
        refine x_iload HE dX21_isSooner_37 rfl ?_
        refine x_ic_ne HE 58 dX21_isSooner_39 (by decide) (fun c39 => ?_) (fun c39 => ?_)
        · have hw := hw.1 c39
          refine Wx.mask [true, true, true, true, false, false] (lo2 := [some (rV x0), some (iV x1), some (iV x2), some (iV x3), none, none]) rfl ?_
          exact w_X21_isSooner_58 HE hr f0 hw
        · have hw := hw.2 c39
          refine x_aload_n HE 0 dX21_isSooner_42 rfl rfl ?_
          refine x_gR HE dX21_isSooner_43 fd_X21_0 q1122 (Or.inl rfl) (Lay_X21.tag (f0.ext (EB.tr (E9.tr E23)))) rfl ?_
          refine x_iload_n HE 2 dX21_isSooner_46 rfl rfl ?_
          refine x_iload_n HE 3 dX21_isSooner_47 rfl rfl ?_
          obtain ⟨u48_0, hw⟩ := hw
          refine x_callV HE dX21_isSooner_48 rfl (fun l => k_X7_isAhead u48_0 l hw) (As := [iV x2, iV x3]) (rest := []) rfl xc12 (Lay_X7.tag u48_0) (lw_V q1349 q1350 q1351 q132 q1352) hy_X7_isAhead rfl rfl (Nat.le_of_ble_eq_true rfl) (Nat.le_of_ble_eq_true rfl) (Nat.le_of_ble_eq_true rfl) (kkI (fun r48 m48 E48 hw => ?_))
          have hw := hw E48
          refine x_if_eq HE 58 dX21_isSooner_51 (by decide) (fun c51 => ?_) (fun c51 => ?_)
          · have hw := hw.1 c51
            refine Wx.mask [true, true, true, true, false, false] (lo2 := [some (rV x0), some (iV x1), some (iV x2), some (iV x3), none, none]) rfl ?_
            exact w_X21_isSooner_58 HE hr f0 hw
          · have hw := hw.2 c51
            refine Wx.mask [true, true, true, true, false, false] (lo2 := [some (rV x0), some (iV x1), some (iV x2), some (iV x3), none, none]) rfl ?_
            exact w_X21_isSooner_54 HE hr f0 hw
    obtain ⟨hd23, hw⟩ := hw
    rcases hd23 with t23_0 | t23_1 | t23_2 | t23_3 | t23_4
    · exact x_callU (C := RX12) HE dX21_isSooner_23 rfl (fun l => k_X12_far  l (hw.1 t23_0)) (As := [rV x0, iV x1, iV x3]) (rest := []) rfl xc27 t23_0 (fun ht hK hR => va_cwA 3 ht (lw_app (fun w hw2 => xw5 q1328 q1330 q1337 q1338 q148 w hw2) (lw_meth q1339)) rfl rfl rfl (hK.2.2.1 _ (List.mem_of_getElem? (i := 21) rfl)) (by decide +kernel) hR) rfl rfl (Nat.le_of_ble_eq_true rfl) (Nat.le_of_ble_eq_true rfl) (Nat.le_of_ble_eq_true rfl) (kkI (fun r h1 E hq => hk23 r h1 E (hq E)))
    · exact x_callU (C := RX13) HE dX21_isSooner_23 rfl (fun l => k_X13_far  l (hw.2.1 t23_1)) (As := [rV x0, iV x1, iV x3]) (rest := []) rfl xc28 t23_1 (fun ht hK hR => va_cwA 3 ht (lw_app (fun w hw2 => xw5 q1328 q1330 q1346 q1347 q149 w hw2) (lw_meth q1348)) rfl rfl rfl (hK.2.2.1 _ (List.mem_of_getElem? (i := 21) rfl)) (by decide +kernel) hR) rfl rfl (Nat.le_of_ble_eq_true rfl) (Nat.le_of_ble_eq_true rfl) (Nat.le_of_ble_eq_true rfl) (kkI (fun r h1 E hq => hk23 r h1 E (hq E)))
    · exact x_callU (C := RX14) HE dX21_isSooner_23 rfl (fun l => k_X14_far  l (hw.2.2.1 t23_2)) (As := [rV x0, iV x1, iV x3]) (rest := []) rfl xc29 t23_2 (fun ht hK hR => va_cwA 3 ht (lw_app (fun w hw2 => xw5 q1328 q1330 q1334 q1335 q150 w hw2) (lw_meth q1336)) rfl rfl rfl (hK.2.2.1 _ (List.mem_of_getElem? (i := 21) rfl)) (by decide +kernel) hR) rfl rfl (Nat.le_of_ble_eq_true rfl) (Nat.le_of_ble_eq_true rfl) (Nat.le_of_ble_eq_true rfl) (kkI (fun r h1 E hq => hk23 r h1 E (hq E)))
    · exact x_callU (C := RX15) HE dX21_isSooner_23 rfl (fun l => k_X15_far  l (hw.2.2.2.1 t23_3)) (As := [rV x0, iV x1, iV x3]) (rest := []) rfl xc30 t23_3 (fun ht hK hR => va_cwA 3 ht (lw_app (fun w hw2 => xw5 q1328 q1330 q1331 q1332 q151 w hw2) (lw_meth q1333)) rfl rfl rfl (hK.2.2.1 _ (List.mem_of_getElem? (i := 21) rfl)) (by decide +kernel) hR) rfl rfl (Nat.le_of_ble_eq_true rfl) (Nat.le_of_ble_eq_true rfl) (Nat.le_of_ble_eq_true rfl) (kkI (fun r h1 E hq => hk23 r h1 E (hq E)))
    · exact x_callU (C := RX16) HE dX21_isSooner_23 rfl (fun l => k_X16_far  l (hw.2.2.2.2 t23_4)) (As := [rV x0, iV x1, iV x3]) (rest := []) rfl xc31 t23_4 (fun ht hK hR => va_cwA 3 ht (lw_app (fun w hw2 => xw5 q1328 q1330 q1343 q1344 q152 w hw2) (lw_meth q1345)) rfl rfl rfl (hK.2.2.1 _ (List.mem_of_getElem? (i := 21) rfl)) (by decide +kernel) hR) rfl rfl (Nat.le_of_ble_eq_true rfl) (Nat.le_of_ble_eq_true rfl) (Nat.le_of_ble_eq_true rfl) (kkI (fun r h1 E hq => hk23 r h1 E (hq E)))
  obtain ⟨hd9, hw⟩ := hw
  rcases hd9 with t9_0 | t9_1 | t9_2 | t9_3 | t9_4
  · exact x_callU (C := RX12) HE dX21_isSooner_9 rfl (fun l => k_X12_far  l (hw.1 t9_0)) (As := [rV x0, iV x1, iV x2]) (rest := []) rfl xc27 t9_0 (fun ht hK hR => va_cwA 3 ht (lw_app (fun w hw2 => xw5 q1328 q1330 q1337 q1338 q148 w hw2) (lw_meth q1339)) rfl rfl rfl (hK.2.2.1 _ (List.mem_of_getElem? (i := 21) rfl)) (by decide +kernel) hR) rfl rfl (Nat.le_of_ble_eq_true rfl) (Nat.le_of_ble_eq_true rfl) (Nat.le_of_ble_eq_true rfl) (kkI (fun r h1 E hq => hk9 r h1 E (hq E)))
  · exact x_callU (C := RX13) HE dX21_isSooner_9 rfl (fun l => k_X13_far  l (hw.2.1 t9_1)) (As := [rV x0, iV x1, iV x2]) (rest := []) rfl xc28 t9_1 (fun ht hK hR => va_cwA 3 ht (lw_app (fun w hw2 => xw5 q1328 q1330 q1346 q1347 q149 w hw2) (lw_meth q1348)) rfl rfl rfl (hK.2.2.1 _ (List.mem_of_getElem? (i := 21) rfl)) (by decide +kernel) hR) rfl rfl (Nat.le_of_ble_eq_true rfl) (Nat.le_of_ble_eq_true rfl) (Nat.le_of_ble_eq_true rfl) (kkI (fun r h1 E hq => hk9 r h1 E (hq E)))
  · exact x_callU (C := RX14) HE dX21_isSooner_9 rfl (fun l => k_X14_far  l (hw.2.2.1 t9_2)) (As := [rV x0, iV x1, iV x2]) (rest := []) rfl xc29 t9_2 (fun ht hK hR => va_cwA 3 ht (lw_app (fun w hw2 => xw5 q1328 q1330 q1334 q1335 q150 w hw2) (lw_meth q1336)) rfl rfl rfl (hK.2.2.1 _ (List.mem_of_getElem? (i := 21) rfl)) (by decide +kernel) hR) rfl rfl (Nat.le_of_ble_eq_true rfl) (Nat.le_of_ble_eq_true rfl) (Nat.le_of_ble_eq_true rfl) (kkI (fun r h1 E hq => hk9 r h1 E (hq E)))
  · exact x_callU (C := RX15) HE dX21_isSooner_9 rfl (fun l => k_X15_far  l (hw.2.2.2.1 t9_3)) (As := [rV x0, iV x1, iV x2]) (rest := []) rfl xc30 t9_3 (fun ht hK hR => va_cwA 3 ht (lw_app (fun w hw2 => xw5 q1328 q1330 q1331 q1332 q151 w hw2) (lw_meth q1333)) rfl rfl rfl (hK.2.2.1 _ (List.mem_of_getElem? (i := 21) rfl)) (by decide +kernel) hR) rfl rfl (Nat.le_of_ble_eq_true rfl) (Nat.le_of_ble_eq_true rfl) (Nat.le_of_ble_eq_true rfl) (kkI (fun r h1 E hq => hk9 r h1 E (hq E)))
  · exact x_callU (C := RX16) HE dX21_isSooner_9 rfl (fun l => k_X16_far  l (hw.2.2.2.2 t9_4)) (As := [rV x0, iV x1, iV x2]) (rest := []) rfl xc31 t9_4 (fun ht hK hR => va_cwA 3 ht (lw_app (fun w hw2 => xw5 q1328 q1330 q1343 q1344 q152 w hw2) (lw_meth q1345)) rfl rfl rfl (hK.2.2.1 _ (List.mem_of_getElem? (i := 21) rfl)) (by decide +kernel) hR) rfl rfl (Nat.le_of_ble_eq_true rfl) (Nat.le_of_ble_eq_true rfl) (Nat.le_of_ble_eq_true rfl) (kkI (fun r h1 E hq => hk9 r h1 E (hq E)))
theorem k_X21_isSooner {G : GT} {x0 x1 x2 x3 : Int} {Q : Int → Hp → Prop} {h : Hp} (f0 : Lay_X21 h x0) (l : Launch) (hw : g_X21_isSooner x0 x1 x2 x3 Q h) : XM G l yX21_isSooner cX21_isSooner 6 (some .boolean) 4 86 [rV x0, iV x1, iV x2, iV x3] (QI Q) h :=
  XM.of (by decide) (Nat.le_of_ble_eq_true rfl) (fun X HE hr hn => w_X21_isSooner_0 HE hr f0 hw)
def g_X21_next_b56 (x0 x1 : Int) (Q : Int → Hp → Prop) (l2 : Int) (h : Hp) : Prop :=
  Q l2 h
theorem w_X21_next_56 {G : GT} {X : ET} {h0 : Hp} {x0 x1 : Int} (HE : XE G X cX21_next 4 RX21 5 111 h0) (hr : XR X (some .int)) (f0 : Lay_X21 h0 x0) {Q : Int → Hp → Prop} {l2 : Int} {h : Hp} (hw : g_X21_next_b56 x0 x1 Q l2 h) : Wx G X h0 (QI Q) h 56 [some (rV x0), some (iV x1), some (iV l2), none] [] := by
  refine Wx.start (fun EB => ?_)
  unfold g_X21_next_b56 at hw
  refine x_iload_n HE 2 dX21_next_56 rfl rfl ?_
  exact x_iret HE hr dX21_next_57 hw
def g_X21_next_b50 (x0 x1 : Int) (Q : Int → Hp → Prop) (K5 : Int → Int → Hp → Prop) (l2 l3 : Int) (h : Hp) : Prop :=
  (i32 (l3 + 1)) ∧ (∀ y50 : Int, y50 = l3 + 1 → (K5 l2 y50 h))
theorem w_X21_next_50 {G : GT} {X : ET} {h0 : Hp} {x0 x1 : Int} (HE : XE G X cX21_next 4 RX21 5 111 h0) (hr : XR X (some .int)) (f0 : Lay_X21 h0 x0) {Q : Int → Hp → Prop} {K5 : Int → Int → Hp → Prop} (hK5 : ∀ (l2 l3 : Int) (h : Hp), K5 l2 l3 h → Wx G X h0 (QI Q) h 5 [some (rV x0), some (iV x1), some (iV l2), some (iV l3)] []) {l2 l3 : Int} {h : Hp} (hw : g_X21_next_b50 x0 x1 Q K5 l2 l3 h) : Wx G X h0 (QI Q) h 50 [some (rV x0), some (iV x1), some (iV l2), some (iV l3)] [] := by
  refine Wx.start (fun EB => ?_)
  unfold g_X21_next_b50 at hw
  obtain ⟨v50, hw⟩ := hw
  refine x_iincN HE (fun y50 => [some (rV x0), some (iV x1), some (iV l2), some (iV y50)]) dX21_next_50 rfl v50 (Nat.le_of_ble_eq_true rfl) (fun _ => rfl) (fun y50 ey50 => ?_)
  have hw := hw y50 ey50
  refine x_goto HE 5 dX21_next_53 (by decide) ?_
  exact hK5 _ _ _ hw
def g_X21_next_b48 (x0 x1 : Int) (Q : Int → Hp → Prop) (K5 : Int → Int → Hp → Prop) (l3 : Int) (h : Hp) : Prop :=
  g_X21_next_b50 x0 x1 Q K5 l3 l3 h
theorem w_X21_next_48 {G : GT} {X : ET} {h0 : Hp} {x0 x1 : Int} (HE : XE G X cX21_next 4 RX21 5 111 h0) (hr : XR X (some .int)) (f0 : Lay_X21 h0 x0) {Q : Int → Hp → Prop} {K5 : Int → Int → Hp → Prop} (hK5 : ∀ (l2 l3 : Int) (h : Hp), K5 l2 l3 h → Wx G X h0 (QI Q) h 5 [some (rV x0), some (iV x1), some (iV l2), some (iV l3)] []) {l3 : Int} {h : Hp} (hw : g_X21_next_b48 x0 x1 Q K5 l3 h) : Wx G X h0 (QI Q) h 48 [some (rV x0), some (iV x1), none, some (iV l3)] [] := by
  refine Wx.start (fun EB => ?_)
  unfold g_X21_next_b48 at hw
  refine x_iload_n HE 3 dX21_next_48 rfl rfl ?_
  refine x_istore_n HE 2 (lo' := [some (rV x0), some (iV x1), some (iV l3), some (iV l3)]) dX21_next_49 rfl (Nat.le_of_ble_eq_true rfl) rfl ?_
  exact w_X21_next_50 HE hr f0 hK5 hw
def g_X21_next_L5 (x0 x1 : Int) (Q : Int → Hp → Prop) (K5 : Int → Int → Hp → Prop) (l2 l3 : Int) (h : Hp) : Prop :=
  (((hF h x0 1) ≤ l3) → (g_X21_next_b56 x0 x1 Q l2 h)) ∧ ((l3 < (hF h x0 1)) → (((0 : Int) ≤ l3 ∧ l3 < 10) ∧ ((((hA h (x0 + 1) l3) ≠ 1) → (g_X21_next_b50 x0 x1 Q K5 l2 l3 h)) ∧ (((hA h (x0 + 1) l3) = 1) → (g_X21_isOnStretch x0 x1 l3 (fun r26 m26 => Ext h m26 → (((r26 = 0) → (g_X21_next_b50 x0 x1 Q K5 l2 l3 m26)) ∧ ((r26 ≠ 0) → (((l2 = (-2)) → (g_X21_next_b48 x0 x1 Q K5 l3 m26)) ∧ ((l2 ≠ (-2)) → (g_X21_isSooner x0 x1 l3 l2 (fun r42 m42 => Ext m26 m42 → (((r42 = 0) → (g_X21_next_b50 x0 x1 Q K5 l2 l3 m42)) ∧ ((r42 ≠ 0) → (g_X21_next_b48 x0 x1 Q K5 l3 m42)))) m26)))))) h)))))
theorem w_X21_next_5 {G : GT} {X : ET} {h0 : Hp} {x0 x1 : Int} (HE : XE G X cX21_next 4 RX21 5 111 h0) (hr : XR X (some .int)) (f0 : Lay_X21 h0 x0) {Q : Int → Hp → Prop} {K5 : Int → Int → Hp → Prop} (hK5 : ∀ (l2 l3 : Int) (h : Hp), K5 l2 l3 h → Wx G X h0 (QI Q) h 5 [some (rV x0), some (iV x1), some (iV l2), some (iV l3)] []) {l2 l3 : Int} {h : Hp} (hw : g_X21_next_L5 x0 x1 Q K5 l2 l3 h) : Wx G X h0 (QI Q) h 5 [some (rV x0), some (iV x1), some (iV l2), some (iV l3)] [] := by
  refine Wx.start (fun EB => ?_)
  unfold g_X21_next_L5 at hw
  refine x_iload_n HE 3 dX21_next_5 rfl rfl ?_
  refine x_aload_n HE 0 dX21_next_6 rfl rfl ?_
  refine x_gI HE dX21_next_7 fd_X21_1 q1123 (Or.inl rfl) (Lay_X21.tag (f0.ext EB)) rfl ?_
  refine x_ic_ge HE 56 dX21_next_10 (by decide) (fun c10 => ?_) (fun c10 => ?_)
  · have hw := hw.1 c10
    refine Wx.mask [true, true, true, false] (lo2 := [some (rV x0), some (iV x1), some (iV l2), none]) rfl ?_
    exact w_X21_next_56 HE hr f0 hw
  · have hw := hw.2 c10
    refine x_aload_n HE 0 dX21_next_13 rfl rfl ?_
    refine x_gR HE dX21_next_14 fd_X21_2 q1124 (Or.inl rfl) (Lay_X21.tag (f0.ext EB)) (Lay_X21_2 (f0.ext EB)).1 ?_
    refine x_iload_n HE 3 dX21_next_17 rfl rfl ?_
    obtain ⟨i18, hw⟩ := hw
    refine x_iald HE dX21_next_18 (t := 1) (by decide) ((Lay_X21_2 (f0.ext EB)).2.1) (ix_of ((Lay_X21_2 (f0.ext EB)).2.2) i18) rfl ?_
    refine x_iconst HE dX21_next_19 (by decide) ?_
    refine x_ic_ne HE 50 dX21_next_20 (by decide) (fun c20 => ?_) (fun c20 => ?_)
    · have hw := hw.1 c20
      exact w_X21_next_50 HE hr f0 hK5 hw
    · have hw := hw.2 c20
      refine x_aload_n HE 0 dX21_next_23 rfl rfl ?_
      refine x_iload_n HE 1 dX21_next_24 rfl rfl ?_
      refine x_iload_n HE 3 dX21_next_25 rfl rfl ?_
      refine x_callV HE dX21_next_26 rfl (fun l => k_X21_isOnStretch (f0.ext EB) l hw) (As := [iV x1, iV l3]) (rest := []) rfl xc13 (Lay_X21.tag (f0.ext EB)) (lw_V q1319 q1320 q1321 q157 q1322) hy_X21_isOnStretch rfl rfl (Nat.le_of_ble_eq_true rfl) (Nat.le_of_ble_eq_true rfl) (Nat.le_of_ble_eq_true rfl) (kkI (fun r26 m26 E26 hw => ?_))
      have hw := hw E26
      refine x_if_eq HE 50 dX21_next_29 (by decide) (fun c29 => ?_) (fun c29 => ?_)
      · have hw := hw.1 c29
        exact w_X21_next_50 HE hr f0 hK5 hw
      · have hw := hw.2 c29
        refine x_iload_n HE 2 dX21_next_32 rfl rfl ?_
        refine x_bipush HE dX21_next_33 (by decide) ?_
        refine x_ic_eq HE 48 dX21_next_35 (by decide) (fun c35 => ?_) (fun c35 => ?_)
        · have hw := hw.1 c35
          refine Wx.mask [true, true, false, true] (lo2 := [some (rV x0), some (iV x1), none, some (iV l3)]) rfl ?_
          exact w_X21_next_48 HE hr f0 hK5 hw
        · have hw := hw.2 c35
          refine x_aload_n HE 0 dX21_next_38 rfl rfl ?_
          refine x_iload_n HE 1 dX21_next_39 rfl rfl ?_
          refine x_iload_n HE 3 dX21_next_40 rfl rfl ?_
          refine x_iload_n HE 2 dX21_next_41 rfl rfl ?_
          refine x_callV HE dX21_next_42 rfl (fun l => k_X21_isSooner (f0.ext (EB.tr E26)) l hw) (As := [iV x1, iV l3, iV l2]) (rest := []) rfl xc13 (Lay_X21.tag (f0.ext (EB.tr E26))) (lw_V q1324 q1326 qs31 q157 q1327) hy_X21_isSooner rfl rfl (Nat.le_of_ble_eq_true rfl) (Nat.le_of_ble_eq_true rfl) (Nat.le_of_ble_eq_true rfl) (kkI (fun r42 m42 E42 hw => ?_))
          have hw := hw E42
          refine x_if_eq HE 50 dX21_next_45 (by decide) (fun c45 => ?_) (fun c45 => ?_)
          · have hw := hw.1 c45
            exact w_X21_next_50 HE hr f0 hK5 hw
          · have hw := hw.2 c45
            refine Wx.mask [true, true, false, true] (lo2 := [some (rV x0), some (iV x1), none, some (iV l3)]) rfl ?_
            exact w_X21_next_48 HE hr f0 hK5 hw
theorem wl_X21_next_5 {G : GT} {X : ET} {h0 : Hp} {x0 x1 : Int} (HE : XE G X cX21_next 4 RX21 5 111 h0) (hr : XR X (some .int)) (f0 : Lay_X21 h0 x0) {Q : Int → Hp → Prop} {l2 l3 : Int} {h : Hp} (hw : Lp2 (g_X21_next_L5 x0 x1 Q) l2 l3 h) : Wx G X h0 (QI Q) h 5 [some (rV x0), some (iV x1), some (iV l2), some (iV l3)] [] := by
  obtain ⟨n, hw⟩ := hw
  induction n generalizing l2 l3 h with
  | zero => exact hw.elim
  | succ n ih => exact w_X21_next_5 HE hr f0 (fun _ _ _ hk => ih hk) hw
def g_X21_next (x0 x1 : Int) (Q : Int → Hp → Prop) (h : Hp) : Prop :=
  Lp2 (g_X21_next_L5 x0 x1 Q) (-2) 0 h
theorem w_X21_next_0 {G : GT} {X : ET} {h0 : Hp} {x0 x1 : Int} (HE : XE G X cX21_next 4 RX21 5 111 h0) (hr : XR X (some .int)) (f0 : Lay_X21 h0 x0) {Q : Int → Hp → Prop} {h : Hp} (hw : g_X21_next x0 x1 Q h) : Wx G X h0 (QI Q) h 0 [some (rV x0), some (iV x1), none, none] [] := by
  refine Wx.start (fun EB => ?_)
  unfold g_X21_next at hw
  refine x_bipush HE dX21_next_0 (by decide) ?_
  refine x_istore_n HE 2 (lo' := [some (rV x0), some (iV x1), some (iV (-2)), none]) dX21_next_2 rfl (Nat.le_of_ble_eq_true rfl) rfl ?_
  refine x_iconst HE dX21_next_3 (by decide) ?_
  refine x_istore_n HE 3 (lo' := [some (rV x0), some (iV x1), some (iV (-2)), some (iV 0)]) dX21_next_4 rfl (Nat.le_of_ble_eq_true rfl) rfl ?_
  exact wl_X21_next_5 HE hr f0 hw
theorem k_X21_next {G : GT} {x0 x1 : Int} {Q : Int → Hp → Prop} {h : Hp} (f0 : Lay_X21 h x0) (l : Launch) (hw : g_X21_next x0 x1 Q h) : XM G l yX21_next cX21_next 4 (some .int) 5 111 [rV x0, iV x1] (QI Q) h :=
  XM.of (by decide) (Nat.le_of_ble_eq_true rfl) (fun X HE hr hn => w_X21_next_0 HE hr f0 hw)
def g_X9_time_b32 (x0 x1 x2 : Int) (Q : Int → Hp → Prop) (s0 : Int) (h : Hp) : Prop :=
  Q s0 h
theorem w_X9_time_32 {G : GT} {X : ET} {h0 : Hp} {x0 x1 x2 : Int} (HE : XE G X cX9_time 3 RX9 0 0 h0) (hr : XR X (some .int)) (f0 : hT h0 x0 = 15) {Q : Int → Hp → Prop} {s0 : Int} {h : Hp} (hw : g_X9_time_b32 x0 x1 x2 Q s0 h) : Wx G X h0 (QI Q) h 32 [some (rV x0), some (iV x1), some (iV x2)] [iV s0] := by
  refine Wx.start (fun EB => ?_)
  unfold g_X9_time_b32 at hw
  exact x_iret HE hr dX9_time_32 hw
def g_X9_time_b23 (x0 x1 x2 : Int) (Q : Int → Hp → Prop) (s0 : Int) (h : Hp) : Prop :=
  (i32 (x1 - 1)) ∧ ((i32 ((hF h x0 2) * (x1 - 1))) ∧ ((i32 (s0 + ((hF h x0 2) * (x1 - 1)))) ∧ (g_X9_time_b32 x0 x1 x2 Q (s0 + ((hF h x0 2) * (x1 - 1))) h)))
theorem w_X9_time_23 {G : GT} {X : ET} {h0 : Hp} {x0 x1 x2 : Int} (HE : XE G X cX9_time 3 RX9 0 0 h0) (hr : XR X (some .int)) (f0 : hT h0 x0 = 15) {Q : Int → Hp → Prop} {s0 : Int} {h : Hp} (hw : g_X9_time_b23 x0 x1 x2 Q s0 h) : Wx G X h0 (QI Q) h 23 [some (rV x0), some (iV x1), some (iV x2)] [iV s0] := by
  refine Wx.start (fun EB => ?_)
  unfold g_X9_time_b23 at hw
  refine x_aload_n HE 0 dX9_time_23 rfl rfl ?_
  refine x_gI HE dX9_time_24 fd_X9_2 q771 (Or.inl rfl) (EB.tag f0 (by decide)) rfl ?_
  refine x_iload_n HE 1 dX9_time_27 rfl rfl ?_
  refine x_iconst HE dX9_time_28 (by decide) ?_
  obtain ⟨v29, hw⟩ := hw
  refine x_isub HE dX9_time_29 v29 ?_
  obtain ⟨v30, hw⟩ := hw
  refine x_imul HE dX9_time_30 v30 ?_
  obtain ⟨v31, hw⟩ := hw
  refine x_iadd HE dX9_time_31 v31 ?_
  exact w_X9_time_32 HE hr f0 hw
def g_X9_time (x0 x1 x2 : Int) (Q : Int → Hp → Prop) (h : Hp) : Prop :=
  ((x1 ≠ 0) → (((x2 = 0) → (g_X9_time_b23 x0 x1 x2 Q (hF h x0 1) h)) ∧ ((x2 ≠ 0) → (g_X9_time_b23 x0 x1 x2 Q (hF h x0 2) h)))) ∧ ((x1 = 0) → (g_X9_time_b32 x0 x1 x2 Q 0 h))
theorem w_X9_time_0 {G : GT} {X : ET} {h0 : Hp} {x0 x1 x2 : Int} (HE : XE G X cX9_time 3 RX9 0 0 h0) (hr : XR X (some .int)) (f0 : hT h0 x0 = 15) {Q : Int → Hp → Prop} {h : Hp} (hw : g_X9_time x0 x1 x2 Q h) : Wx G X h0 (QI Q) h 0 [some (rV x0), some (iV x1), some (iV x2)] [] := by
  refine Wx.start (fun EB => ?_)
  unfold g_X9_time at hw
  refine x_iload_n HE 1 dX9_time_0 rfl rfl ?_
  refine x_if_ne HE 8 dX9_time_1 (by decide) (fun c1 => ?_) (fun c1 => ?_)
  · have hw := hw.1 c1
    refine x_iload_n HE 2 dX9_time_8 rfl rfl ?_
    refine x_if_eq HE 19 dX9_time_9 (by decide) (fun c9 => ?_) (fun c9 => ?_)
    · have hw := hw.1 c9
      refine x_aload_n HE 0 dX9_time_19 rfl rfl ?_
      refine x_gI HE dX9_time_20 fd_X9_1 q770 (Or.inl rfl) (EB.tag f0 (by decide)) rfl ?_
      exact w_X9_time_23 HE hr f0 hw
    · have hw := hw.2 c9
      refine x_aload_n HE 0 dX9_time_12 rfl rfl ?_
      refine x_gI HE dX9_time_13 fd_X9_2 q771 (Or.inl rfl) (EB.tag f0 (by decide)) rfl ?_
      refine x_goto HE 23 dX9_time_16 (by decide) ?_
      exact w_X9_time_23 HE hr f0 hw
  · have hw := hw.2 c1
    refine x_iconst HE dX9_time_4 (by decide) ?_
    refine x_goto HE 32 dX9_time_5 (by decide) ?_
    exact w_X9_time_32 HE hr f0 hw
theorem k_X9_time {G : GT} {x0 x1 x2 : Int} {Q : Int → Hp → Prop} {h : Hp} (f0 : hT h x0 = 15) (l : Launch) (hw : g_X9_time x0 x1 x2 Q h) : XM G l yX9_time cX9_time 3 (some .int) 0 0 [rV x0, iV x1, iV x2] (QI Q) h :=
  XM.of (by decide) (Nat.le_of_ble_eq_true rfl) (fun X HE hr hn => w_X9_time_0 HE hr f0 hw)
def g_X7_time_b88 (x0 x1 x2 : Int) (Q : Int → Hp → Prop) (l3 : Int) (h : Hp) : Prop :=
  Q l3 h
theorem w_X7_time_88 {G : GT} {X : ET} {h0 : Hp} {x0 x1 x2 : Int} (HE : XE G X cX7_time 5 RX7 3 64 h0) (hr : XR X (some .int)) (f0 : Lay_X7 h0 x0) {Q : Int → Hp → Prop} {l3 : Int} {h : Hp} (hw : g_X7_time_b88 x0 x1 x2 Q l3 h) : Wx G X h0 (QI Q) h 88 [some (rV x0), some (iV x1), some (iV x2), some (iV l3), none] [] := by
  refine Wx.start (fun EB => ?_)
  unfold g_X7_time_b88 at hw
  refine x_iload_n HE 3 dX7_time_88 rfl rfl ?_
  exact x_iret HE hr dX7_time_89 hw
def g_X7_time_b77 (x0 x1 x2 : Int) (Q : Int → Hp → Prop) (K5 : Int → Int → Hp → Prop) (l4 s0 s1 s2 s3 : Int) (h : Hp) : Prop :=
  (hT h s1 = 15) ∧ (g_X9_time s1 s2 s3 (fun r77 m77 => Ext h m77 → ((i32 (s0 + r77)) ∧ (∀ y81 : Int, y81 = (s0 + r77) → ((i32 (l4 + 1)) ∧ (∀ y82 : Int, y82 = l4 + 1 → (K5 y81 y82 m77)))))) h)
theorem w_X7_time_77 {G : GT} {X : ET} {h0 : Hp} {x0 x1 x2 : Int} (HE : XE G X cX7_time 5 RX7 3 64 h0) (hr : XR X (some .int)) (f0 : Lay_X7 h0 x0) {Q : Int → Hp → Prop} {K5 : Int → Int → Hp → Prop} (hK5 : ∀ (l3 l4 : Int) (h : Hp), K5 l3 l4 h → Wx G X h0 (QI Q) h 5 [some (rV x0), some (iV x1), some (iV x2), some (iV l3), some (iV l4)] []) {l4 s0 s1 s2 s3 : Int} {h : Hp} (hw : g_X7_time_b77 x0 x1 x2 Q K5 l4 s0 s1 s2 s3 h) : Wx G X h0 (QI Q) h 77 [some (rV x0), some (iV x1), some (iV x2), none, some (iV l4)] [iV s3, iV s2, rV s1, iV s0] := by
  refine Wx.start (fun EB => ?_)
  unfold g_X7_time_b77 at hw
  obtain ⟨u77_0, hw⟩ := hw
  refine x_callV HE dX7_time_77 rfl (fun l => k_X9_time u77_0 l hw) (As := [iV s2, iV s3]) (rest := [iV s0]) rfl xc15 u77_0 (lw_V q1369 q1370 q1371 q145 q1372) hy_X9_time rfl rfl (Nat.le_of_ble_eq_true rfl) (Nat.le_of_ble_eq_true rfl) (Nat.le_of_ble_eq_true rfl) (kkI (fun r77 m77 E77 hw => ?_))
  have hw := hw E77
  obtain ⟨v80, hw⟩ := hw
  refine x_iadd HE dX7_time_80 v80 ?_
  refine x_istore_nN HE 3 (fun y81 => [some (rV x0), some (iV x1), some (iV x2), some (iV y81), some (iV l4)]) dX7_time_81 rfl (Nat.le_of_ble_eq_true rfl) (fun _ => rfl) (fun y81 ey81 => ?_)
  have hw := hw y81 ey81
  obtain ⟨v82, hw⟩ := hw
  refine x_iincN HE (fun y82 => [some (rV x0), some (iV x1), some (iV x2), some (iV y81), some (iV y82)]) dX7_time_82 rfl v82 (Nat.le_of_ble_eq_true rfl) (fun _ => rfl) (fun y82 ey82 => ?_)
  have hw := hw y82 ey82
  refine x_goto HE 5 dX7_time_85 (by decide) ?_
  exact hK5 _ _ _ hw
def g_X7_time_b76 (x0 x1 x2 : Int) (Q : Int → Hp → Prop) (K5 : Int → Int → Hp → Prop) (l4 s0 s1 s2 : Int) (h : Hp) : Prop :=
  g_X7_time_b77 x0 x1 x2 Q K5 l4 s0 s1 s2 0 h
theorem w_X7_time_76 {G : GT} {X : ET} {h0 : Hp} {x0 x1 x2 : Int} (HE : XE G X cX7_time 5 RX7 3 64 h0) (hr : XR X (some .int)) (f0 : Lay_X7 h0 x0) {Q : Int → Hp → Prop} {K5 : Int → Int → Hp → Prop} (hK5 : ∀ (l3 l4 : Int) (h : Hp), K5 l3 l4 h → Wx G X h0 (QI Q) h 5 [some (rV x0), some (iV x1), some (iV x2), some (iV l3), some (iV l4)] []) {l4 s0 s1 s2 : Int} {h : Hp} (hw : g_X7_time_b76 x0 x1 x2 Q K5 l4 s0 s1 s2 h) : Wx G X h0 (QI Q) h 76 [some (rV x0), some (iV x1), some (iV x2), none, some (iV l4)] [iV s2, rV s1, iV s0] := by
  refine Wx.start (fun EB => ?_)
  unfold g_X7_time_b76 at hw
  refine x_iconst HE dX7_time_76 (by decide) ?_
  exact w_X7_time_77 HE hr f0 hK5 hw
def g_X7_time_L5 (x0 x1 x2 : Int) (Q : Int → Hp → Prop) (K5 : Int → Int → Hp → Prop) (l3 l4 : Int) (h : Hp) : Prop :=
  g_J2_size (x0 + 1) (fun r11 m11 => Ext h m11 → (((r11 ≤ l4) → (g_X7_time_b88 x0 x1 x2 Q l3 m11)) ∧ ((l4 < r11) → (g_J2_get (x0 + 1) l4 (fun r24 m24 => Ext m11 m24 → ((hT m24 r24 = 15) ∧ (g_J2_get (x0 + 3) x1 (fun r35 m35 => Ext m24 m35 → ((Lay_X17 m35 r35) ∧ (((0 : Int) ≤ l4 ∧ l4 < 5) ∧ (((x2 = (-1)) → (g_X7_time_b76 x0 x1 x2 Q K5 l4 l3 r24 (hA m35 (r35 + 1) l4) m35)) ∧ ((x2 ≠ (-1)) → (g_J2_get (x0 + 3) x2 (fun r57 m57 => Ext m35 m57 → ((Lay_X17 m57 r57) ∧ (((0 : Int) ≤ l4 ∧ l4 < 5) ∧ ((((hA m57 (r57 + 1) l4) ≤ 0) → (g_X7_time_b76 x0 x1 x2 Q K5 l4 l3 r24 (hA m35 (r35 + 1) l4) m57)) ∧ ((0 < (hA m57 (r57 + 1) l4)) → (g_X7_time_b77 x0 x1 x2 Q K5 l4 l3 r24 (hA m35 (r35 + 1) l4) 1 m57)))))) m35)))))) m24))) m11)))) h
theorem w_X7_time_5 {G : GT} {X : ET} {h0 : Hp} {x0 x1 x2 : Int} (HE : XE G X cX7_time 5 RX7 3 64 h0) (hr : XR X (some .int)) (f0 : Lay_X7 h0 x0) {Q : Int → Hp → Prop} {K5 : Int → Int → Hp → Prop} (hK5 : ∀ (l3 l4 : Int) (h : Hp), K5 l3 l4 h → Wx G X h0 (QI Q) h 5 [some (rV x0), some (iV x1), some (iV x2), some (iV l3), some (iV l4)] []) {l3 l4 : Int} {h : Hp} (hw : g_X7_time_L5 x0 x1 x2 Q K5 l3 l4 h) : Wx G X h0 (QI Q) h 5 [some (rV x0), some (iV x1), some (iV x2), some (iV l3), some (iV l4)] [] := by
  refine Wx.start (fun EB => ?_)
  unfold g_X7_time_L5 at hw
  refine x_iload HE dX7_time_5 rfl ?_
  refine x_aload_n HE 0 dX7_time_7 rfl rfl ?_
  refine x_gR HE dX7_time_8 fd_X7_3 q320 (Or.inl rfl) (Lay_X7.tag (f0.ext EB)) (Lay_X7_3 (f0.ext EB)).1 ?_
  refine x_callV HE dX7_time_11 rfl (fun l => k_J2_size ((Lay_X7_3 (f0.ext EB)).2) l hw) (As := []) (rest := [iV l4]) rfl xc32 ((Lay_X7_3 (f0.ext EB)).2) (lw_V q734 q708 q709 q128 q710) hy_J2_size rfl rfl (Nat.le_of_ble_eq_true rfl) (Nat.le_of_ble_eq_true rfl) (Nat.le_of_ble_eq_true rfl) (kkI (fun r11 m11 E11 hw => ?_))
  have hw := hw E11
  refine x_ic_ge HE 88 dX7_time_14 (by decide) (fun c14 => ?_) (fun c14 => ?_)
  · have hw := hw.1 c14
    refine Wx.mask [true, true, true, true, false] (lo2 := [some (rV x0), some (iV x1), some (iV x2), some (iV l3), none]) rfl ?_
    exact w_X7_time_88 HE hr f0 hw
  · have hw := hw.2 c14
    refine x_iload_n HE 3 dX7_time_17 rfl rfl ?_
    refine x_aload_n HE 0 dX7_time_18 rfl rfl ?_
    refine x_gR HE dX7_time_19 fd_X7_3 q320 (Or.inl rfl) (Lay_X7.tag (f0.ext (EB.tr E11))) (Lay_X7_3 (f0.ext (EB.tr E11))).1 ?_
    refine x_iload HE dX7_time_22 rfl ?_
    refine x_callV HE dX7_time_24 rfl (fun l => k_J2_get ((Lay_X7_3 (f0.ext (EB.tr E11))).2) l hw) (As := [iV l4]) (rest := [iV l3]) rfl xc32 ((Lay_X7_3 (f0.ext (EB.tr E11))).2) (lw_V q735 q736 q737 q128 q738) hy_J2_get rfl rfl (Nat.le_of_ble_eq_true rfl) (Nat.le_of_ble_eq_true rfl) (Nat.le_of_ble_eq_true rfl) (kkR (fun r24 m24 E24 hw => ?_))
    have hw := hw E24
    obtain ⟨v27, hw⟩ := hw
    refine x_castS HE dX7_time_27 xc15 q753 v27 ?_
    refine x_aload_n HE 0 dX7_time_30 rfl rfl ?_
    refine x_gR HE dX7_time_31 fd_X7_5 q327 (Or.inl rfl) (Lay_X7.tag (f0.ext (EB.tr (E11.tr E24)))) (Lay_X7_5 (f0.ext (EB.tr (E11.tr E24)))).1 ?_
    refine x_iload_n HE 1 dX7_time_34 rfl rfl ?_
    refine x_callV HE dX7_time_35 rfl (fun l => k_J2_get ((Lay_X7_5 (f0.ext (EB.tr (E11.tr E24)))).2) l hw) (As := [iV x1]) (rest := [rV r24, iV l3]) rfl xc32 ((Lay_X7_5 (f0.ext (EB.tr (E11.tr E24)))).2) (lw_V q735 q736 q737 q128 q738) hy_J2_get rfl rfl (Nat.le_of_ble_eq_true rfl) (Nat.le_of_ble_eq_true rfl) (Nat.le_of_ble_eq_true rfl) (kkR (fun r35 m35 E35 hw => ?_))
    have hw := hw E35
    obtain ⟨v38, hw⟩ := hw
    refine x_castS HE dX7_time_38 xc14 q758 (Lay_X17.tag v38) ?_
    refine x_gR HE dX7_time_41 fd_X17_2 q982 (Or.inl rfl) (Lay_X17.tag v38) (Lay_X17_2 v38).1 ?_
    refine x_iload HE dX7_time_44 rfl ?_
    obtain ⟨i46, hw⟩ := hw
    refine x_iald HE dX7_time_46 (t := 1) (by decide) ((Lay_X17_2 v38).2.1) (ix_of ((Lay_X17_2 v38).2.2) i46) rfl ?_
    refine x_iload_n HE 2 dX7_time_47 rfl rfl ?_
    refine x_iconst HE dX7_time_48 (by decide) ?_
    refine x_ic_eq HE 76 dX7_time_49 (by decide) (fun c49 => ?_) (fun c49 => ?_)
    · have hw := hw.1 c49
      refine Wx.mask [true, true, true, false, true] (lo2 := [some (rV x0), some (iV x1), some (iV x2), none, some (iV l4)]) rfl ?_
      exact w_X7_time_76 HE hr f0 hK5 hw
    · have hw := hw.2 c49
      refine x_aload_n HE 0 dX7_time_52 rfl rfl ?_
      refine x_gR HE dX7_time_53 fd_X7_5 q327 (Or.inl rfl) (Lay_X7.tag (f0.ext (EB.tr (E11.tr (E24.tr E35))))) (Lay_X7_5 (f0.ext (EB.tr (E11.tr (E24.tr E35))))).1 ?_
      refine x_iload_n HE 2 dX7_time_56 rfl rfl ?_
      refine x_callV HE dX7_time_57 rfl (fun l => k_J2_get ((Lay_X7_5 (f0.ext (EB.tr (E11.tr (E24.tr E35))))).2) l hw) (As := [iV x2]) (rest := [iV (hA m35 (r35 + 1) l4), rV r24, iV l3]) rfl xc32 ((Lay_X7_5 (f0.ext (EB.tr (E11.tr (E24.tr E35))))).2) (lw_V q735 q736 q737 q128 q738) hy_J2_get rfl rfl (Nat.le_of_ble_eq_true rfl) (Nat.le_of_ble_eq_true rfl) (Nat.le_of_ble_eq_true rfl) (kkR (fun r57 m57 E57 hw => ?_))
      have hw := hw E57
      obtain ⟨v60, hw⟩ := hw
      refine x_castS HE dX7_time_60 xc14 q758 (Lay_X17.tag v60) ?_
      refine x_gR HE dX7_time_63 fd_X17_2 q982 (Or.inl rfl) (Lay_X17.tag v60) (Lay_X17_2 v60).1 ?_
      refine x_iload HE dX7_time_66 rfl ?_
      obtain ⟨i68, hw⟩ := hw
      refine x_iald HE dX7_time_68 (t := 1) (by decide) ((Lay_X17_2 v60).2.1) (ix_of ((Lay_X17_2 v60).2.2) i68) rfl ?_
      refine x_if_le HE 76 dX7_time_69 (by decide) (fun c69 => ?_) (fun c69 => ?_)
      · have hw := hw.1 c69
        refine Wx.mask [true, true, true, false, true] (lo2 := [some (rV x0), some (iV x1), some (iV x2), none, some (iV l4)]) rfl ?_
        exact w_X7_time_76 HE hr f0 hK5 hw
      · have hw := hw.2 c69
        refine x_iconst HE dX7_time_72 (by decide) ?_
        refine x_goto HE 77 dX7_time_73 (by decide) ?_
        refine Wx.mask [true, true, true, false, true] (lo2 := [some (rV x0), some (iV x1), some (iV x2), none, some (iV l4)]) rfl ?_
        exact w_X7_time_77 HE hr f0 hK5 hw
theorem wl_X7_time_5 {G : GT} {X : ET} {h0 : Hp} {x0 x1 x2 : Int} (HE : XE G X cX7_time 5 RX7 3 64 h0) (hr : XR X (some .int)) (f0 : Lay_X7 h0 x0) {Q : Int → Hp → Prop} {l3 l4 : Int} {h : Hp} (hw : Lp2 (g_X7_time_L5 x0 x1 x2 Q) l3 l4 h) : Wx G X h0 (QI Q) h 5 [some (rV x0), some (iV x1), some (iV x2), some (iV l3), some (iV l4)] [] := by
  obtain ⟨n, hw⟩ := hw
  induction n generalizing l3 l4 h with
  | zero => exact hw.elim
  | succ n ih => exact w_X7_time_5 HE hr f0 (fun _ _ _ hk => ih hk) hw
def g_X7_time (x0 x1 x2 : Int) (Q : Int → Hp → Prop) (h : Hp) : Prop :=
  Lp2 (g_X7_time_L5 x0 x1 x2 Q) 0 0 h
theorem w_X7_time_0 {G : GT} {X : ET} {h0 : Hp} {x0 x1 x2 : Int} (HE : XE G X cX7_time 5 RX7 3 64 h0) (hr : XR X (some .int)) (f0 : Lay_X7 h0 x0) {Q : Int → Hp → Prop} {h : Hp} (hw : g_X7_time x0 x1 x2 Q h) : Wx G X h0 (QI Q) h 0 [some (rV x0), some (iV x1), some (iV x2), none, none] [] := by
  refine Wx.start (fun EB => ?_)
  unfold g_X7_time at hw
  refine x_iconst HE dX7_time_0 (by decide) ?_
  refine x_istore_n HE 3 (lo' := [some (rV x0), some (iV x1), some (iV x2), some (iV 0), none]) dX7_time_1 rfl (Nat.le_of_ble_eq_true rfl) rfl ?_
  refine x_iconst HE dX7_time_2 (by decide) ?_
  refine x_istore HE (lo' := [some (rV x0), some (iV x1), some (iV x2), some (iV 0), some (iV 0)]) dX7_time_3 (Nat.le_of_ble_eq_true rfl) rfl ?_
  exact wl_X7_time_5 HE hr f0 hw
theorem k_X7_time {G : GT} {x0 x1 x2 : Int} {Q : Int → Hp → Prop} {h : Hp} (f0 : Lay_X7 h x0) (l : Launch) (hw : g_X7_time x0 x1 x2 Q h) : XM G l yX7_time cX7_time 5 (some .int) 3 64 [rV x0, iV x1, iV x2] (QI Q) h :=
  XM.of (by decide) (Nat.le_of_ble_eq_true rfl) (fun X HE hr hn => w_X7_time_0 HE hr f0 hw)
def g_X21_time (x0 x1 x2 : Int) (Q : Int → Hp → Prop) (h : Hp) : Prop :=
  ((0 : Int) ≤ x1 ∧ x1 < 4) ∧ ((Lay_X7 h (hF h x0 0)) ∧ (g_X7_time (hF h x0 0) x2 (hA h (x0 + 21) x1) (fun r11 m11 => Ext h m11 → (Q r11 m11)) h))
theorem w_X21_time_0 {G : GT} {X : ET} {h0 : Hp} {x0 x1 x2 : Int} (HE : XE G X cX21_time 3 RX21 4 88 h0) (hr : XR X (some .int)) (f0 : Lay_X21 h0 x0) {Q : Int → Hp → Prop} {h : Hp} (hw : g_X21_time x0 x1 x2 Q h) : Wx G X h0 (QI Q) h 0 [some (rV x0), some (iV x1), some (iV x2)] [] := by
  refine Wx.start (fun EB => ?_)
  unfold g_X21_time at hw
  refine x_aload_n HE 0 dX21_time_0 rfl rfl ?_
  refine x_gR HE dX21_time_1 fd_X21_0 q1122 (Or.inl rfl) (Lay_X21.tag (f0.ext EB)) rfl ?_
  refine x_iload_n HE 2 dX21_time_4 rfl rfl ?_
  refine x_aload_n HE 0 dX21_time_5 rfl rfl ?_
  refine x_gR HE dX21_time_6 fd_X21_22 q1167 (Or.inl rfl) (Lay_X21.tag (f0.ext EB)) (Lay_X21_22 (f0.ext EB)).1 ?_
  refine x_iload_n HE 1 dX21_time_9 rfl rfl ?_
  obtain ⟨i10, hw⟩ := hw
  refine x_iald HE dX21_time_10 (t := 1) (by decide) ((Lay_X21_22 (f0.ext EB)).2.1) (ix_of ((Lay_X21_22 (f0.ext EB)).2.2) i10) rfl ?_
  obtain ⟨u11_0, hw⟩ := hw
  refine x_callV HE dX21_time_11 rfl (fun l => k_X7_time u11_0 l hw) (As := [iV x2, iV (hA h (x0 + 21) x1)]) (rest := []) rfl xc12 (Lay_X7.tag u11_0) (lw_V q1365 q1366 q1367 q132 q1368) hy_X7_time rfl rfl (Nat.le_of_ble_eq_true rfl) (Nat.le_of_ble_eq_true rfl) (Nat.le_of_ble_eq_true rfl) (kkI (fun r11 m11 E11 hw => ?_))
  have hw := hw E11
  exact x_iret HE hr dX21_time_14 hw
theorem k_X21_time {G : GT} {x0 x1 x2 : Int} {Q : Int → Hp → Prop} {h : Hp} (f0 : Lay_X21 h x0) (l : Launch) (hw : g_X21_time x0 x1 x2 Q h) : XM G l yX21_time cX21_time 3 (some .int) 4 88 [rV x0, iV x1, iV x2] (QI Q) h :=
  XM.of (by decide) (Nat.le_of_ble_eq_true rfl) (fun X HE hr hn => w_X21_time_0 HE hr f0 hw)
def g_X7_costs_b55 (x0 x1 : Int) (Q : Int → Hp → Prop) (l2 : Int) (h : Hp) : Prop :=
  Q l2 h
theorem w_X7_costs_55 {G : GT} {X : ET} {h0 : Hp} {x0 x1 : Int} (HE : XE G X cX7_costs 4 RX7 3 64 h0) (hr : XR X (some .int)) (f0 : Lay_X7 h0 x0) {Q : Int → Hp → Prop} {l2 : Int} {h : Hp} (hw : g_X7_costs_b55 x0 x1 Q l2 h) : Wx G X h0 (QI Q) h 55 [some (rV x0), some (iV x1), some (iV l2), none] [] := by
  refine Wx.start (fun EB => ?_)
  unfold g_X7_costs_b55 at hw
  refine x_iload_n HE 2 dX7_costs_55 rfl rfl ?_
  exact x_iret HE hr dX7_costs_56 hw
def g_X7_costs_L4 (x0 x1 : Int) (Q : Int → Hp → Prop) (K4 : Int → Int → Hp → Prop) (l2 l3 : Int) (h : Hp) : Prop :=
  g_J2_size (x0 + 1) (fun r9 m9 => Ext h m9 → (((r9 ≤ l3) → (g_X7_costs_b55 x0 x1 Q l2 m9)) ∧ ((l3 < r9) → (g_J2_get (x0 + 1) l3 (fun r21 m21 => Ext m9 m21 → ((hT m21 r21 = 15) ∧ (g_J2_get (x0 + 3) x1 (fun r35 m35 => Ext m21 m35 → ((Lay_X17 m35 r35) ∧ (((0 : Int) ≤ l3 ∧ l3 < 5) ∧ ((i32 ((hF m21 r21 3) * (hA m35 (r35 + 1) l3))) ∧ ((i32 (l2 + ((hF m21 r21 3) * (hA m35 (r35 + 1) l3)))) ∧ (∀ y48 : Int, y48 = (l2 + ((hF m21 r21 3) * (hA m35 (r35 + 1) l3))) → ((i32 (l3 + 1)) ∧ (∀ y49 : Int, y49 = l3 + 1 → (K4 y48 y49 m35))))))))) m21))) m9)))) h
theorem w_X7_costs_4 {G : GT} {X : ET} {h0 : Hp} {x0 x1 : Int} (HE : XE G X cX7_costs 4 RX7 3 64 h0) (hr : XR X (some .int)) (f0 : Lay_X7 h0 x0) {Q : Int → Hp → Prop} {K4 : Int → Int → Hp → Prop} (hK4 : ∀ (l2 l3 : Int) (h : Hp), K4 l2 l3 h → Wx G X h0 (QI Q) h 4 [some (rV x0), some (iV x1), some (iV l2), some (iV l3)] []) {l2 l3 : Int} {h : Hp} (hw : g_X7_costs_L4 x0 x1 Q K4 l2 l3 h) : Wx G X h0 (QI Q) h 4 [some (rV x0), some (iV x1), some (iV l2), some (iV l3)] [] := by
  refine Wx.start (fun EB => ?_)
  unfold g_X7_costs_L4 at hw
  refine x_iload_n HE 3 dX7_costs_4 rfl rfl ?_
  refine x_aload_n HE 0 dX7_costs_5 rfl rfl ?_
  refine x_gR HE dX7_costs_6 fd_X7_3 q320 (Or.inl rfl) (Lay_X7.tag (f0.ext EB)) (Lay_X7_3 (f0.ext EB)).1 ?_
  refine x_callV HE dX7_costs_9 rfl (fun l => k_J2_size ((Lay_X7_3 (f0.ext EB)).2) l hw) (As := []) (rest := [iV l3]) rfl xc32 ((Lay_X7_3 (f0.ext EB)).2) (lw_V q734 q708 q709 q128 q710) hy_J2_size rfl rfl (Nat.le_of_ble_eq_true rfl) (Nat.le_of_ble_eq_true rfl) (Nat.le_of_ble_eq_true rfl) (kkI (fun r9 m9 E9 hw => ?_))
  have hw := hw E9
  refine x_ic_ge HE 55 dX7_costs_12 (by decide) (fun c12 => ?_) (fun c12 => ?_)
  · have hw := hw.1 c12
    refine Wx.mask [true, true, true, false] (lo2 := [some (rV x0), some (iV x1), some (iV l2), none]) rfl ?_
    exact w_X7_costs_55 HE hr f0 hw
  · have hw := hw.2 c12
    refine x_iload_n HE 2 dX7_costs_15 rfl rfl ?_
    refine x_aload_n HE 0 dX7_costs_16 rfl rfl ?_
    refine x_gR HE dX7_costs_17 fd_X7_3 q320 (Or.inl rfl) (Lay_X7.tag (f0.ext (EB.tr E9))) (Lay_X7_3 (f0.ext (EB.tr E9))).1 ?_
    refine x_iload_n HE 3 dX7_costs_20 rfl rfl ?_
    refine x_callV HE dX7_costs_21 rfl (fun l => k_J2_get ((Lay_X7_3 (f0.ext (EB.tr E9))).2) l hw) (As := [iV l3]) (rest := [iV l2]) rfl xc32 ((Lay_X7_3 (f0.ext (EB.tr E9))).2) (lw_V q735 q736 q737 q128 q738) hy_J2_get rfl rfl (Nat.le_of_ble_eq_true rfl) (Nat.le_of_ble_eq_true rfl) (Nat.le_of_ble_eq_true rfl) (kkR (fun r21 m21 E21 hw => ?_))
    have hw := hw E21
    obtain ⟨v24, hw⟩ := hw
    refine x_castS HE dX7_costs_24 xc15 q753 v24 ?_
    refine x_gI HE dX7_costs_27 fd_X9_3 q773 (Or.inl rfl) v24 rfl ?_
    refine x_aload_n HE 0 dX7_costs_30 rfl rfl ?_
    refine x_gR HE dX7_costs_31 fd_X7_5 q327 (Or.inl rfl) (Lay_X7.tag (f0.ext (EB.tr (E9.tr E21)))) (Lay_X7_5 (f0.ext (EB.tr (E9.tr E21)))).1 ?_
    refine x_iload_n HE 1 dX7_costs_34 rfl rfl ?_
    refine x_callV HE dX7_costs_35 rfl (fun l => k_J2_get ((Lay_X7_5 (f0.ext (EB.tr (E9.tr E21)))).2) l hw) (As := [iV x1]) (rest := [iV (hF m21 r21 3), iV l2]) rfl xc32 ((Lay_X7_5 (f0.ext (EB.tr (E9.tr E21)))).2) (lw_V q735 q736 q737 q128 q738) hy_J2_get rfl rfl (Nat.le_of_ble_eq_true rfl) (Nat.le_of_ble_eq_true rfl) (Nat.le_of_ble_eq_true rfl) (kkR (fun r35 m35 E35 hw => ?_))
    have hw := hw E35
    obtain ⟨v38, hw⟩ := hw
    refine x_castS HE dX7_costs_38 xc14 q758 (Lay_X17.tag v38) ?_
    refine x_gR HE dX7_costs_41 fd_X17_2 q982 (Or.inl rfl) (Lay_X17.tag v38) (Lay_X17_2 v38).1 ?_
    refine x_iload_n HE 3 dX7_costs_44 rfl rfl ?_
    obtain ⟨i45, hw⟩ := hw
    refine x_iald HE dX7_costs_45 (t := 1) (by decide) ((Lay_X17_2 v38).2.1) (ix_of ((Lay_X17_2 v38).2.2) i45) rfl ?_
    obtain ⟨v46, hw⟩ := hw
    refine x_imul HE dX7_costs_46 v46 ?_
    obtain ⟨v47, hw⟩ := hw
    refine x_iadd HE dX7_costs_47 v47 ?_
    refine x_istore_nN HE 2 (fun y48 => [some (rV x0), some (iV x1), some (iV y48), some (iV l3)]) dX7_costs_48 rfl (Nat.le_of_ble_eq_true rfl) (fun _ => rfl) (fun y48 ey48 => ?_)
    have hw := hw y48 ey48
    obtain ⟨v49, hw⟩ := hw
    refine x_iincN HE (fun y49 => [some (rV x0), some (iV x1), some (iV y48), some (iV y49)]) dX7_costs_49 rfl v49 (Nat.le_of_ble_eq_true rfl) (fun _ => rfl) (fun y49 ey49 => ?_)
    have hw := hw y49 ey49
    refine x_goto HE 4 dX7_costs_52 (by decide) ?_
    exact hK4 _ _ _ hw
theorem wl_X7_costs_4 {G : GT} {X : ET} {h0 : Hp} {x0 x1 : Int} (HE : XE G X cX7_costs 4 RX7 3 64 h0) (hr : XR X (some .int)) (f0 : Lay_X7 h0 x0) {Q : Int → Hp → Prop} {l2 l3 : Int} {h : Hp} (hw : Lp2 (g_X7_costs_L4 x0 x1 Q) l2 l3 h) : Wx G X h0 (QI Q) h 4 [some (rV x0), some (iV x1), some (iV l2), some (iV l3)] [] := by
  obtain ⟨n, hw⟩ := hw
  induction n generalizing l2 l3 h with
  | zero => exact hw.elim
  | succ n ih => exact w_X7_costs_4 HE hr f0 (fun _ _ _ hk => ih hk) hw
def g_X7_costs (x0 x1 : Int) (Q : Int → Hp → Prop) (h : Hp) : Prop :=
  Lp2 (g_X7_costs_L4 x0 x1 Q) 0 0 h
theorem w_X7_costs_0 {G : GT} {X : ET} {h0 : Hp} {x0 x1 : Int} (HE : XE G X cX7_costs 4 RX7 3 64 h0) (hr : XR X (some .int)) (f0 : Lay_X7 h0 x0) {Q : Int → Hp → Prop} {h : Hp} (hw : g_X7_costs x0 x1 Q h) : Wx G X h0 (QI Q) h 0 [some (rV x0), some (iV x1), none, none] [] := by
  refine Wx.start (fun EB => ?_)
  unfold g_X7_costs at hw
  refine x_iconst HE dX7_costs_0 (by decide) ?_
  refine x_istore_n HE 2 (lo' := [some (rV x0), some (iV x1), some (iV 0), none]) dX7_costs_1 rfl (Nat.le_of_ble_eq_true rfl) rfl ?_
  refine x_iconst HE dX7_costs_2 (by decide) ?_
  refine x_istore_n HE 3 (lo' := [some (rV x0), some (iV x1), some (iV 0), some (iV 0)]) dX7_costs_3 rfl (Nat.le_of_ble_eq_true rfl) rfl ?_
  exact wl_X7_costs_4 HE hr f0 hw
theorem k_X7_costs {G : GT} {x0 x1 : Int} {Q : Int → Hp → Prop} {h : Hp} (f0 : Lay_X7 h x0) (l : Launch) (hw : g_X7_costs x0 x1 Q h) : XM G l yX7_costs cX7_costs 4 (some .int) 3 64 [rV x0, iV x1] (QI Q) h :=
  XM.of (by decide) (Nat.le_of_ble_eq_true rfl) (fun X HE hr hn => w_X7_costs_0 HE hr f0 hw)
def g_X21_ends (x0 x1 x2 : Int) (Q : Hp → Prop) (h : Hp) : Prop :=
  ((0 : Int) ≤ x1 ∧ x1 < 10) ∧ (∀ m6 : Hp, m6 = setA h (x0 + 1) x1 x2 → ((Lay_X7 m6 (hF m6 x0 0)) ∧ (g_J2_get ((hF m6 x0 0) + 3) x1 (fun r24 m24 => Ext m6 m24 → ((Lay_X17 m24 r24) ∧ ((i32 ((hF m6 x0 24) - (hF m24 r24 3))) ∧ (((0 : Int) ≤ x1 ∧ x1 < 10) ∧ (∀ m34 : Hp, m34 = setA m24 (x0 + 9) x1 ((hF m6 x0 24) - (hF m24 r24 3)) → (Q m34)))))) m6)))
theorem w_X21_ends_0 {G : GT} {X : ET} {h0 : Hp} {x0 x1 x2 : Int} (HE : XE G X cX21_ends 3 RX21 3 64 h0) (hr : XR X none) (f0 : Lay_X21 h0 x0) {Q : Hp → Prop} {h : Hp} (hw : g_X21_ends x0 x1 x2 Q h) : Wx G X h0 (QV Q) h 0 [some (rV x0), some (iV x1), some (iV x2)] [] := by
  refine Wx.start (fun EB => ?_)
  unfold g_X21_ends at hw
  refine x_aload_n HE 0 dX21_ends_0 rfl rfl ?_
  refine x_gR HE dX21_ends_1 fd_X21_2 q1124 (Or.inl rfl) (Lay_X21.tag (f0.ext EB)) (Lay_X21_2 (f0.ext EB)).1 ?_
  refine x_iload_n HE 1 dX21_ends_4 rfl rfl ?_
  refine x_iload_n HE 2 dX21_ends_5 rfl rfl ?_
  obtain ⟨i6, hw⟩ := hw
  refine x_iast HE dX21_ends_6 ((Lay_X21_2 (f0.ext EB)).2.1) (ix_of ((Lay_X21_2 (f0.ext EB)).2.2) i6) (fun m6 em6 E6 => ?_)
  have hw := hw m6 em6
  refine x_aload_n HE 0 dX21_ends_7 rfl rfl ?_
  refine x_gR HE dX21_ends_8 fd_X21_10 q1144 (Or.inl rfl) (Lay_X21.tag (f0.ext (EB.tr E6))) (Lay_X21_10 (f0.ext (EB.tr E6))).1 ?_
  refine x_iload_n HE 1 dX21_ends_11 rfl rfl ?_
  refine x_aload_n HE 0 dX21_ends_12 rfl rfl ?_
  refine x_gI HE dX21_ends_13 fd_X21_24 q1171 (Or.inl rfl) (Lay_X21.tag (f0.ext (EB.tr E6))) rfl ?_
  refine x_aload_n HE 0 dX21_ends_16 rfl rfl ?_
  refine x_gR HE dX21_ends_17 fd_X21_0 q1122 (Or.inl rfl) (Lay_X21.tag (f0.ext (EB.tr E6))) rfl ?_
  obtain ⟨v20, hw⟩ := hw
  refine x_gR HE dX21_ends_20 fd_X7_5 q328 (Or.inl rfl) (Lay_X7.tag v20) (Lay_X7_5 v20).1 ?_
  refine x_iload_n HE 1 dX21_ends_23 rfl rfl ?_
  refine x_callV HE dX21_ends_24 rfl (fun l => k_J2_get ((Lay_X7_5 v20).2) l hw) (As := [iV x1]) (rest := [iV (hF m6 x0 24), iV x1, rV (x0 + 9)]) rfl xc32 ((Lay_X7_5 v20).2) (lw_V q1087 q736 q737 q128 q738) hy_J2_get rfl rfl (Nat.le_of_ble_eq_true rfl) (Nat.le_of_ble_eq_true rfl) (Nat.le_of_ble_eq_true rfl) (kkR (fun r24 m24 E24 hw => ?_))
  have hw := hw E24
  obtain ⟨v27, hw⟩ := hw
  refine x_castS HE dX21_ends_27 xc14 q1088 (Lay_X17.tag v27) ?_
  refine x_gI HE dX21_ends_30 fd_X17_3 q986 (Or.inl rfl) (Lay_X17.tag v27) rfl ?_
  obtain ⟨v33, hw⟩ := hw
  refine x_isub HE dX21_ends_33 v33 ?_
  obtain ⟨i34, hw⟩ := hw
  refine x_iast HE dX21_ends_34 ((Lay_X21_10 (f0.ext (EB.tr (E6.tr E24)))).2.1) (ix_of ((Lay_X21_10 (f0.ext (EB.tr (E6.tr E24)))).2.2) i34) (fun m34 em34 E34 => ?_)
  have hw := hw m34 em34
  exact x_vret HE hr dX21_ends_35 hw
theorem k_X21_ends {G : GT} {x0 x1 x2 : Int} {Q : Hp → Prop} {h : Hp} (f0 : Lay_X21 h x0) (l : Launch) (hw : g_X21_ends x0 x1 x2 Q h) : XM G l yX21_ends cX21_ends 3 none 3 64 [rV x0, iV x1, iV x2] (QV Q) h :=
  XM.of (by decide) (Nat.le_of_ble_eq_true rfl) (fun X HE hr hn => w_X21_ends_0 HE hr f0 hw)
def g_X21_freeHand_b41 (x0 x1 : Int) (Q : Int → Hp → Prop) (h : Hp) : Prop :=
  Q (-1) h
theorem w_X21_freeHand_41 {G : GT} {X : ET} {h0 : Hp} {x0 x1 : Int} (HE : XE G X cX21_freeHand 3 RX21 0 0 h0) (hr : XR X (some .int)) (f0 : Lay_X21 h0 x0) {Q : Int → Hp → Prop} {h : Hp} (hw : g_X21_freeHand_b41 x0 x1 Q  h) : Wx G X h0 (QI Q) h 41 [some (rV x0), some (iV x1), none] [] := by
  refine Wx.start (fun EB => ?_)
  unfold g_X21_freeHand_b41 at hw
  refine x_iconst HE dX21_freeHand_41 (by decide) ?_
  exact x_iret HE hr dX21_freeHand_42 hw
def g_X21_freeHand_b29 (x0 x1 : Int) (Q : Int → Hp → Prop) (l2 : Int) (h : Hp) : Prop :=
  (i32 (2 * x1)) ∧ ((i32 ((2 * x1) + l2)) ∧ (Q ((2 * x1) + l2) h))
theorem w_X21_freeHand_29 {G : GT} {X : ET} {h0 : Hp} {x0 x1 : Int} (HE : XE G X cX21_freeHand 3 RX21 0 0 h0) (hr : XR X (some .int)) (f0 : Lay_X21 h0 x0) {Q : Int → Hp → Prop} {l2 : Int} {h : Hp} (hw : g_X21_freeHand_b29 x0 x1 Q l2 h) : Wx G X h0 (QI Q) h 29 [some (rV x0), some (iV x1), some (iV l2)] [] := by
  refine Wx.start (fun EB => ?_)
  unfold g_X21_freeHand_b29 at hw
  refine x_iconst HE dX21_freeHand_29 (by decide) ?_
  refine x_iload_n HE 1 dX21_freeHand_30 rfl rfl ?_
  obtain ⟨v31, hw⟩ := hw
  refine x_imul HE dX21_freeHand_31 v31 ?_
  refine x_iload_n HE 2 dX21_freeHand_32 rfl rfl ?_
  obtain ⟨v33, hw⟩ := hw
  refine x_iadd HE dX21_freeHand_33 v33 ?_
  exact x_iret HE hr dX21_freeHand_34 hw
def g_X21_freeHand_L2 (x0 x1 : Int) (Q : Int → Hp → Prop) (K2 : Int → Hp → Prop) (l2 : Int) (h : Hp) : Prop :=
  ((0 : Int) ≤ x1 ∧ x1 < 4) ∧ ((((hA h (x0 + 19) x1) ≤ l2) → (g_X21_freeHand_b41 x0 x1 Q h)) ∧ ((l2 < (hA h (x0 + 19) x1)) → ((i32 (2 * x1)) ∧ ((i32 ((2 * x1) + l2)) ∧ (((0 : Int) ≤ ((2 * x1) + l2) ∧ ((2 * x1) + l2) < 8) ∧ ((((hF h x0 24) < (hA h (x0 + 20) ((2 * x1) + l2))) → ((i32 (l2 + 1)) ∧ (∀ y35 : Int, y35 = l2 + 1 → (K2 y35 h)))) ∧ (((hA h (x0 + 20) ((2 * x1) + l2)) ≤ (hF h x0 24)) → (g_X21_freeHand_b29 x0 x1 Q l2 h))))))))
theorem w_X21_freeHand_2 {G : GT} {X : ET} {h0 : Hp} {x0 x1 : Int} (HE : XE G X cX21_freeHand 3 RX21 0 0 h0) (hr : XR X (some .int)) (f0 : Lay_X21 h0 x0) {Q : Int → Hp → Prop} {K2 : Int → Hp → Prop} (hK2 : ∀ (l2 : Int) (h : Hp), K2 l2 h → Wx G X h0 (QI Q) h 2 [some (rV x0), some (iV x1), some (iV l2)] []) {l2 : Int} {h : Hp} (hw : g_X21_freeHand_L2 x0 x1 Q K2 l2 h) : Wx G X h0 (QI Q) h 2 [some (rV x0), some (iV x1), some (iV l2)] [] := by
  refine Wx.start (fun EB => ?_)
  unfold g_X21_freeHand_L2 at hw
  refine x_iload_n HE 2 dX21_freeHand_2 rfl rfl ?_
  refine x_aload_n HE 0 dX21_freeHand_3 rfl rfl ?_
  refine x_gR HE dX21_freeHand_4 fd_X21_20 q1164 (Or.inl rfl) (Lay_X21.tag (f0.ext EB)) (Lay_X21_20 (f0.ext EB)).1 ?_
  refine x_iload_n HE 1 dX21_freeHand_7 rfl rfl ?_
  obtain ⟨i8, hw⟩ := hw
  refine x_iald HE dX21_freeHand_8 (t := 1) (by decide) ((Lay_X21_20 (f0.ext EB)).2.1) (ix_of ((Lay_X21_20 (f0.ext EB)).2.2) i8) rfl ?_
  refine x_ic_ge HE 41 dX21_freeHand_9 (by decide) (fun c9 => ?_) (fun c9 => ?_)
  · have hw := hw.1 c9
    refine Wx.mask [true, true, false] (lo2 := [some (rV x0), some (iV x1), none]) rfl ?_
    exact w_X21_freeHand_41 HE hr f0 hw
  · have hw := hw.2 c9
    refine x_aload_n HE 0 dX21_freeHand_12 rfl rfl ?_
    refine x_gR HE dX21_freeHand_13 fd_X21_21 q1165 (Or.inl rfl) (Lay_X21.tag (f0.ext EB)) (Lay_X21_21 (f0.ext EB)).1 ?_
    refine x_iconst HE dX21_freeHand_16 (by decide) ?_
    refine x_iload_n HE 1 dX21_freeHand_17 rfl rfl ?_
    obtain ⟨v18, hw⟩ := hw
    refine x_imul HE dX21_freeHand_18 v18 ?_
    refine x_iload_n HE 2 dX21_freeHand_19 rfl rfl ?_
    obtain ⟨v20, hw⟩ := hw
    refine x_iadd HE dX21_freeHand_20 v20 ?_
    obtain ⟨i21, hw⟩ := hw
    refine x_iald HE dX21_freeHand_21 (t := 1) (by decide) ((Lay_X21_21 (f0.ext EB)).2.1) (ix_of ((Lay_X21_21 (f0.ext EB)).2.2) i21) rfl ?_
    refine x_aload_n HE 0 dX21_freeHand_22 rfl rfl ?_
    refine x_gI HE dX21_freeHand_23 fd_X21_24 q1171 (Or.inl rfl) (Lay_X21.tag (f0.ext EB)) rfl ?_
    refine x_ic_gt HE 35 dX21_freeHand_26 (by decide) (fun c26 => ?_) (fun c26 => ?_)
    · have hw := hw.1 c26
      obtain ⟨v35, hw⟩ := hw
      refine x_iincN HE (fun y35 => [some (rV x0), some (iV x1), some (iV y35)]) dX21_freeHand_35 rfl v35 (Nat.le_of_ble_eq_true rfl) (fun _ => rfl) (fun y35 ey35 => ?_)
      have hw := hw y35 ey35
      refine x_goto HE 2 dX21_freeHand_38 (by decide) ?_
      exact hK2 _ _ hw
    · have hw := hw.2 c26
      exact w_X21_freeHand_29 HE hr f0 hw
theorem wl_X21_freeHand_2 {G : GT} {X : ET} {h0 : Hp} {x0 x1 : Int} (HE : XE G X cX21_freeHand 3 RX21 0 0 h0) (hr : XR X (some .int)) (f0 : Lay_X21 h0 x0) {Q : Int → Hp → Prop} {l2 : Int} {h : Hp} (hw : Lp1 (g_X21_freeHand_L2 x0 x1 Q) l2 h) : Wx G X h0 (QI Q) h 2 [some (rV x0), some (iV x1), some (iV l2)] [] := by
  obtain ⟨n, hw⟩ := hw
  induction n generalizing l2 h with
  | zero => exact hw.elim
  | succ n ih => exact w_X21_freeHand_2 HE hr f0 (fun _ _ hk => ih hk) hw
def g_X21_freeHand (x0 x1 : Int) (Q : Int → Hp → Prop) (h : Hp) : Prop :=
  Lp1 (g_X21_freeHand_L2 x0 x1 Q) 0 h
theorem w_X21_freeHand_0 {G : GT} {X : ET} {h0 : Hp} {x0 x1 : Int} (HE : XE G X cX21_freeHand 3 RX21 0 0 h0) (hr : XR X (some .int)) (f0 : Lay_X21 h0 x0) {Q : Int → Hp → Prop} {h : Hp} (hw : g_X21_freeHand x0 x1 Q h) : Wx G X h0 (QI Q) h 0 [some (rV x0), some (iV x1), none] [] := by
  refine Wx.start (fun EB => ?_)
  unfold g_X21_freeHand at hw
  refine x_iconst HE dX21_freeHand_0 (by decide) ?_
  refine x_istore_n HE 2 (lo' := [some (rV x0), some (iV x1), some (iV 0)]) dX21_freeHand_1 rfl (Nat.le_of_ble_eq_true rfl) rfl ?_
  exact wl_X21_freeHand_2 HE hr f0 hw
theorem k_X21_freeHand {G : GT} {x0 x1 : Int} {Q : Int → Hp → Prop} {h : Hp} (f0 : Lay_X21 h x0) (l : Launch) (hw : g_X21_freeHand x0 x1 Q h) : XM G l yX21_freeHand cX21_freeHand 3 (some .int) 0 0 [rV x0, iV x1] (QI Q) h :=
  XM.of (by decide) (Nat.le_of_ble_eq_true rfl) (fun X HE hr hn => w_X21_freeHand_0 HE hr f0 hw)
def g_X21_begins_b77 (x0 x1 x2 x3 : Int) (Q : Hp → Prop) (h : Hp) : Prop :=
  ((0 : Int) ≤ x1 ∧ x1 < 4) ∧ (((0 : Int) ≤ x3 ∧ x3 < 10) ∧ (((0 : Int) ≤ x1 ∧ x1 < 4) ∧ ((i32 ((hA h (x0 + 2) x3) - (hA h (x0 + 15) x1))) ∧ ((i32 (0 - ((hA h (x0 + 2) x3) - (hA h (x0 + 15) x1)))) ∧ ((i32 ((hA h (x0 + 18) x1) * (if 0 ≤ ((hA h (x0 + 2) x3) - (hA h (x0 + 15) x1)) then ((hA h (x0 + 2) x3) - (hA h (x0 + 15) x1)) else 0 - ((hA h (x0 + 2) x3) - (hA h (x0 + 15) x1))))) ∧ ((i32 ((hF h x0 24) + ((hA h (x0 + 18) x1) * (if 0 ≤ ((hA h (x0 + 2) x3) - (hA h (x0 + 15) x1)) then ((hA h (x0 + 2) x3) - (hA h (x0 + 15) x1)) else 0 - ((hA h (x0 + 2) x3) - (hA h (x0 + 15) x1)))))) ∧ (g_X21_time x0 x1 x3 (fun r108 m108 => Ext h m108 → ((i32 (((hF h x0 24) + ((hA h (x0 + 18) x1) * (if 0 ≤ ((hA h (x0 + 2) x3) - (hA h (x0 + 15) x1)) then ((hA h (x0 + 2) x3) - (hA h (x0 + 15) x1)) else 0 - ((hA h (x0 + 2) x3) - (hA h (x0 + 15) x1))))) + r108)) ∧ (∀ y112 : Int, y112 = (((hF h x0 24) + ((hA h (x0 + 18) x1) * (if 0 ≤ ((hA h (x0 + 2) x3) - (hA h (x0 + 15) x1)) then ((hA h (x0 + 2) x3) - (hA h (x0 + 15) x1)) else 0 - ((hA h (x0 + 2) x3) - (hA h (x0 + 15) x1))))) + r108) → (((0 : Int) ≤ x3 ∧ x3 < 10) ∧ (((0 : Int) ≤ x1 ∧ x1 < 4) ∧ (∀ m125 : Hp, m125 = setA m108 (x0 + 15) x1 (hA m108 (x0 + 2) x3) → (((0 : Int) ≤ x1 ∧ x1 < 4) ∧ (∀ m132 : Hp, m132 = setA m125 (x0 + 21) x1 x3 → (((0 : Int) ≤ x2 ∧ x2 < 8) ∧ (∀ m140 : Hp, m140 = setA m132 (x0 + 20) x2 y112 → (g_X21_ends x0 x3 2 (fun m144 => Ext m140 m144 → (((0 : Int) ≤ x3 ∧ x3 < 10) ∧ (∀ m156 : Hp, m156 = setA m144 (x0 + 6) x3 (hF m144 x0 24) → (((0 : Int) ≤ x3 ∧ x3 < 10) ∧ (∀ m163 : Hp, m163 = setA m156 (x0 + 7) x3 x1 → (((0 : Int) ≤ x3 ∧ x3 < 10) ∧ (∀ m171 : Hp, m171 = setA m163 (x0 + 8) x3 y112 → (((0 : Int) ≤ (hF m171 x0 25) ∧ (hF m171 x0 25) < 10) ∧ (∀ m181 : Hp, m181 = setA m171 (x0 + 12) (hF m171 x0 25) x3 → ((i32 ((hF m181 x0 25) + 1)) ∧ (∀ m189 : Hp, m189 = setF m181 x0 25 ((hF m181 x0 25) + 1) → (Q m189)))))))))))) m140))))))))))) h)))))))
theorem w_X21_begins_77 {G : GT} {X : ET} {h0 : Hp} {x0 x1 x2 x3 : Int} (HE : XE G X cX21_begins 5 RX21 5 110 h0) (hr : XR X none) (f0 : Lay_X21 h0 x0) {Q : Hp → Prop} {h : Hp} (hw : g_X21_begins_b77 x0 x1 x2 x3 Q  h) : Wx G X h0 (QV Q) h 77 [some (rV x0), some (iV x1), some (iV x2), some (iV x3), none] [] := by
  refine Wx.start (fun EB => ?_)
  unfold g_X21_begins_b77 at hw
  refine x_aload_n HE 0 dX21_begins_77 rfl rfl ?_
  refine x_gI HE dX21_begins_78 fd_X21_24 q1171 (Or.inl rfl) (Lay_X21.tag (f0.ext EB)) rfl ?_
  refine x_aload_n HE 0 dX21_begins_81 rfl rfl ?_
  refine x_gR HE dX21_begins_82 fd_X21_19 q1163 (Or.inl rfl) (Lay_X21.tag (f0.ext EB)) (Lay_X21_19 (f0.ext EB)).1 ?_
  refine x_iload_n HE 1 dX21_begins_85 rfl rfl ?_
  obtain ⟨i86, hw⟩ := hw
  refine x_iald HE dX21_begins_86 (t := 1) (by decide) ((Lay_X21_19 (f0.ext EB)).2.1) (ix_of ((Lay_X21_19 (f0.ext EB)).2.2) i86) rfl ?_
  refine x_aload_n HE 0 dX21_begins_87 rfl rfl ?_
  refine x_gR HE dX21_begins_88 fd_X21_3 q1126 (Or.inl rfl) (Lay_X21.tag (f0.ext EB)) (Lay_X21_3 (f0.ext EB)).1 ?_
  refine x_iload_n HE 3 dX21_begins_91 rfl rfl ?_
  obtain ⟨i92, hw⟩ := hw
  refine x_iald HE dX21_begins_92 (t := 1) (by decide) ((Lay_X21_3 (f0.ext EB)).2.1) (ix_of ((Lay_X21_3 (f0.ext EB)).2.2) i92) rfl ?_
  refine x_aload_n HE 0 dX21_begins_93 rfl rfl ?_
  refine x_gR HE dX21_begins_94 fd_X21_16 q1155 (Or.inl rfl) (Lay_X21.tag (f0.ext EB)) (Lay_X21_16 (f0.ext EB)).1 ?_
  refine x_iload_n HE 1 dX21_begins_97 rfl rfl ?_
  obtain ⟨i98, hw⟩ := hw
  refine x_iald HE dX21_begins_98 (t := 1) (by decide) ((Lay_X21_16 (f0.ext EB)).2.1) (ix_of ((Lay_X21_16 (f0.ext EB)).2.2) i98) rfl ?_
  obtain ⟨v99, hw⟩ := hw
  refine x_isub HE dX21_begins_99 v99 ?_
  obtain ⟨v100, hw⟩ := hw
  refine x_mabs HE dX21_begins_100 rfl q1415 q1341 q139 q1342 v100 (Nat.le_of_ble_eq_true rfl) (Nat.le_of_ble_eq_true rfl) (Nat.le_of_ble_eq_true rfl) ?_
  obtain ⟨v103, hw⟩ := hw
  refine x_imul HE dX21_begins_103 v103 ?_
  obtain ⟨v104, hw⟩ := hw
  refine x_iadd HE dX21_begins_104 v104 ?_
  refine x_aload_n HE 0 dX21_begins_105 rfl rfl ?_
  refine x_iload_n HE 1 dX21_begins_106 rfl rfl ?_
  refine x_iload_n HE 3 dX21_begins_107 rfl rfl ?_
  refine x_callV HE dX21_begins_108 rfl (fun l => k_X21_time (f0.ext EB) l hw) (As := [iV x1, iV x3]) (rest := [iV ((hF h x0 24) + ((hA h (x0 + 18) x1) * (if 0 ≤ ((hA h (x0 + 2) x3) - (hA h (x0 + 15) x1)) then ((hA h (x0 + 2) x3) - (hA h (x0 + 15) x1)) else 0 - ((hA h (x0 + 2) x3) - (hA h (x0 + 15) x1)))))]) rfl xc13 (Lay_X21.tag (f0.ext EB)) (lw_V q1416 q1362 q1363 q157 q1364) hy_X21_time rfl rfl (Nat.le_of_ble_eq_true rfl) (Nat.le_of_ble_eq_true rfl) (Nat.le_of_ble_eq_true rfl) (kkI (fun r108 m108 E108 hw => ?_))
  have hw := hw E108
  obtain ⟨v111, hw⟩ := hw
  refine x_iadd HE dX21_begins_111 v111 ?_
  refine x_istoreN HE (fun y112 => [some (rV x0), some (iV x1), some (iV x2), some (iV x3), some (iV y112)]) dX21_begins_112 (Nat.le_of_ble_eq_true rfl) (fun _ => rfl) (fun y112 ey112 => ?_)
  have hw := hw y112 ey112
  refine x_aload_n HE 0 dX21_begins_114 rfl rfl ?_
  refine x_gR HE dX21_begins_115 fd_X21_16 q1155 (Or.inl rfl) (Lay_X21.tag (f0.ext (EB.tr E108))) (Lay_X21_16 (f0.ext (EB.tr E108))).1 ?_
  refine x_iload_n HE 1 dX21_begins_118 rfl rfl ?_
  refine x_aload_n HE 0 dX21_begins_119 rfl rfl ?_
  refine x_gR HE dX21_begins_120 fd_X21_3 q1126 (Or.inl rfl) (Lay_X21.tag (f0.ext (EB.tr E108))) (Lay_X21_3 (f0.ext (EB.tr E108))).1 ?_
  refine x_iload_n HE 3 dX21_begins_123 rfl rfl ?_
  obtain ⟨i124, hw⟩ := hw
  refine x_iald HE dX21_begins_124 (t := 1) (by decide) ((Lay_X21_3 (f0.ext (EB.tr E108))).2.1) (ix_of ((Lay_X21_3 (f0.ext (EB.tr E108))).2.2) i124) rfl ?_
  obtain ⟨i125, hw⟩ := hw
  refine x_iast HE dX21_begins_125 ((Lay_X21_16 (f0.ext (EB.tr E108))).2.1) (ix_of ((Lay_X21_16 (f0.ext (EB.tr E108))).2.2) i125) (fun m125 em125 E125 => ?_)
  have hw := hw m125 em125
  refine x_aload_n HE 0 dX21_begins_126 rfl rfl ?_
  refine x_gR HE dX21_begins_127 fd_X21_22 q1167 (Or.inl rfl) (Lay_X21.tag (f0.ext (EB.tr (E108.tr E125)))) (Lay_X21_22 (f0.ext (EB.tr (E108.tr E125)))).1 ?_
  refine x_iload_n HE 1 dX21_begins_130 rfl rfl ?_
  refine x_iload_n HE 3 dX21_begins_131 rfl rfl ?_
  obtain ⟨i132, hw⟩ := hw
  refine x_iast HE dX21_begins_132 ((Lay_X21_22 (f0.ext (EB.tr (E108.tr E125)))).2.1) (ix_of ((Lay_X21_22 (f0.ext (EB.tr (E108.tr E125)))).2.2) i132) (fun m132 em132 E132 => ?_)
  have hw := hw m132 em132
  refine x_aload_n HE 0 dX21_begins_133 rfl rfl ?_
  refine x_gR HE dX21_begins_134 fd_X21_21 q1165 (Or.inl rfl) (Lay_X21.tag (f0.ext (EB.tr (E108.tr (E125.tr E132))))) (Lay_X21_21 (f0.ext (EB.tr (E108.tr (E125.tr E132))))).1 ?_
  refine x_iload_n HE 2 dX21_begins_137 rfl rfl ?_
  refine x_iload HE dX21_begins_138 rfl ?_
  obtain ⟨i140, hw⟩ := hw
  refine x_iast HE dX21_begins_140 ((Lay_X21_21 (f0.ext (EB.tr (E108.tr (E125.tr E132))))).2.1) (ix_of ((Lay_X21_21 (f0.ext (EB.tr (E108.tr (E125.tr E132))))).2.2) i140) (fun m140 em140 E140 => ?_)
  have hw := hw m140 em140
  refine x_aload_n HE 0 dX21_begins_141 rfl rfl ?_
  refine x_iload_n HE 3 dX21_begins_142 rfl rfl ?_
  refine x_iconst HE dX21_begins_143 (by decide) ?_
  refine x_callV HE dX21_begins_144 rfl (fun l => k_X21_ends (f0.ext (EB.tr (E108.tr (E125.tr (E132.tr E140))))) l hw) (As := [iV x3, iV 2]) (rest := []) rfl xc13 (Lay_X21.tag (f0.ext (EB.tr (E108.tr (E125.tr (E132.tr E140)))))) (lw_V q1398 q1400 qs33 q157 q1401) hy_X21_ends rfl rfl (Nat.le_of_ble_eq_true rfl) (Nat.le_of_ble_eq_true rfl) (Nat.le_of_ble_eq_true rfl) (kkV (fun m144 E144 hw => ?_))
  have hw := hw E144
  refine x_aload_n HE 0 dX21_begins_147 rfl rfl ?_
  refine x_gR HE dX21_begins_148 fd_X21_7 q1138 (Or.inl rfl) (Lay_X21.tag (f0.ext (EB.tr (E108.tr (E125.tr (E132.tr (E140.tr E144))))))) (Lay_X21_7 (f0.ext (EB.tr (E108.tr (E125.tr (E132.tr (E140.tr E144))))))).1 ?_
  refine x_iload_n HE 3 dX21_begins_151 rfl rfl ?_
  refine x_aload_n HE 0 dX21_begins_152 rfl rfl ?_
  refine x_gI HE dX21_begins_153 fd_X21_24 q1171 (Or.inl rfl) (Lay_X21.tag (f0.ext (EB.tr (E108.tr (E125.tr (E132.tr (E140.tr E144))))))) rfl ?_
  obtain ⟨i156, hw⟩ := hw
  refine x_iast HE dX21_begins_156 ((Lay_X21_7 (f0.ext (EB.tr (E108.tr (E125.tr (E132.tr (E140.tr E144))))))).2.1) (ix_of ((Lay_X21_7 (f0.ext (EB.tr (E108.tr (E125.tr (E132.tr (E140.tr E144))))))).2.2) i156) (fun m156 em156 E156 => ?_)
  have hw := hw m156 em156
  refine x_aload_n HE 0 dX21_begins_157 rfl rfl ?_
  refine x_gR HE dX21_begins_158 fd_X21_8 q1140 (Or.inl rfl) (Lay_X21.tag (f0.ext (EB.tr (E108.tr (E125.tr (E132.tr (E140.tr (E144.tr E156)))))))) (Lay_X21_8 (f0.ext (EB.tr (E108.tr (E125.tr (E132.tr (E140.tr (E144.tr E156)))))))).1 ?_
  refine x_iload_n HE 3 dX21_begins_161 rfl rfl ?_
  refine x_iload_n HE 1 dX21_begins_162 rfl rfl ?_
  obtain ⟨i163, hw⟩ := hw
  refine x_iast HE dX21_begins_163 ((Lay_X21_8 (f0.ext (EB.tr (E108.tr (E125.tr (E132.tr (E140.tr (E144.tr E156)))))))).2.1) (ix_of ((Lay_X21_8 (f0.ext (EB.tr (E108.tr (E125.tr (E132.tr (E140.tr (E144.tr E156)))))))).2.2) i163) (fun m163 em163 E163 => ?_)
  have hw := hw m163 em163
  refine x_aload_n HE 0 dX21_begins_164 rfl rfl ?_
  refine x_gR HE dX21_begins_165 fd_X21_9 q1142 (Or.inl rfl) (Lay_X21.tag (f0.ext (EB.tr (E108.tr (E125.tr (E132.tr (E140.tr (E144.tr (E156.tr E163))))))))) (Lay_X21_9 (f0.ext (EB.tr (E108.tr (E125.tr (E132.tr (E140.tr (E144.tr (E156.tr E163))))))))).1 ?_
  refine x_iload_n HE 3 dX21_begins_168 rfl rfl ?_
  refine x_iload HE dX21_begins_169 rfl ?_
  obtain ⟨i171, hw⟩ := hw
  refine x_iast HE dX21_begins_171 ((Lay_X21_9 (f0.ext (EB.tr (E108.tr (E125.tr (E132.tr (E140.tr (E144.tr (E156.tr E163))))))))).2.1) (ix_of ((Lay_X21_9 (f0.ext (EB.tr (E108.tr (E125.tr (E132.tr (E140.tr (E144.tr (E156.tr E163))))))))).2.2) i171) (fun m171 em171 E171 => ?_)
  have hw := hw m171 em171
  refine x_aload_n HE 0 dX21_begins_172 rfl rfl ?_
  refine x_gR HE dX21_begins_173 fd_X21_13 q1149 (Or.inl rfl) (Lay_X21.tag (f0.ext (EB.tr (E108.tr (E125.tr (E132.tr (E140.tr (E144.tr (E156.tr (E163.tr E171)))))))))) (Lay_X21_13 (f0.ext (EB.tr (E108.tr (E125.tr (E132.tr (E140.tr (E144.tr (E156.tr (E163.tr E171)))))))))).1 ?_
  refine x_aload_n HE 0 dX21_begins_176 rfl rfl ?_
  refine x_gI HE dX21_begins_177 fd_X21_25 q1173 (Or.inl rfl) (Lay_X21.tag (f0.ext (EB.tr (E108.tr (E125.tr (E132.tr (E140.tr (E144.tr (E156.tr (E163.tr E171)))))))))) rfl ?_
  refine x_iload_n HE 3 dX21_begins_180 rfl rfl ?_
  obtain ⟨i181, hw⟩ := hw
  refine x_iast HE dX21_begins_181 ((Lay_X21_13 (f0.ext (EB.tr (E108.tr (E125.tr (E132.tr (E140.tr (E144.tr (E156.tr (E163.tr E171)))))))))).2.1) (ix_of ((Lay_X21_13 (f0.ext (EB.tr (E108.tr (E125.tr (E132.tr (E140.tr (E144.tr (E156.tr (E163.tr E171)))))))))).2.2) i181) (fun m181 em181 E181 => ?_)
  have hw := hw m181 em181
  refine x_aload_n HE 0 dX21_begins_182 rfl rfl ?_
  refine x_dup HE dX21_begins_183 (fun o => o) ?_
  refine x_gI HE dX21_begins_184 fd_X21_25 q1173 (Or.inl rfl) (Lay_X21.tag (f0.ext (EB.tr (E108.tr (E125.tr (E132.tr (E140.tr (E144.tr (E156.tr (E163.tr (E171.tr E181))))))))))) rfl ?_
  refine x_iconst HE dX21_begins_187 (by decide) ?_
  obtain ⟨v188, hw⟩ := hw
  refine x_iadd HE dX21_begins_188 v188 ?_
  refine x_pI HE dX21_begins_189 fd_X21_25 q1173 (Or.inl rfl) (Or.inl rfl) (nf_int _) (Lay_X21.tag (f0.ext (EB.tr (E108.tr (E125.tr (E132.tr (E140.tr (E144.tr (E156.tr (E163.tr (E171.tr E181))))))))))) (nro (by decide)) (Or.inl nf_X21_25) (fun m189 em189 E189 => ?_)
  have hw := hw m189 em189
  exact x_vret HE hr dX21_begins_192 hw
def g_X21_begins_b71 (x0 x1 x2 x3 : Int) (Q : Hp → Prop) (K3 : Int → Hp → Prop) (l4 : Int) (h : Hp) : Prop :=
  (i32 (l4 + 1)) ∧ (∀ y71 : Int, y71 = l4 + 1 → (K3 y71 h))
theorem w_X21_begins_71 {G : GT} {X : ET} {h0 : Hp} {x0 x1 x2 x3 : Int} (HE : XE G X cX21_begins 5 RX21 5 110 h0) (hr : XR X none) (f0 : Lay_X21 h0 x0) {Q : Hp → Prop} {K3 : Int → Hp → Prop} (hK3 : ∀ (l4 : Int) (h : Hp), K3 l4 h → Wx G X h0 (QV Q) h 3 [some (rV x0), some (iV x1), some (iV x2), some (iV x3), some (iV l4)] []) {l4 : Int} {h : Hp} (hw : g_X21_begins_b71 x0 x1 x2 x3 Q K3 l4 h) : Wx G X h0 (QV Q) h 71 [some (rV x0), some (iV x1), some (iV x2), some (iV x3), some (iV l4)] [] := by
  refine Wx.start (fun EB => ?_)
  unfold g_X21_begins_b71 at hw
  obtain ⟨v71, hw⟩ := hw
  refine x_iincN HE (fun y71 => [some (rV x0), some (iV x1), some (iV x2), some (iV x3), some (iV y71)]) dX21_begins_71 rfl v71 (Nat.le_of_ble_eq_true rfl) (fun _ => rfl) (fun y71 ey71 => ?_)
  have hw := hw y71 ey71
  refine x_goto HE 3 dX21_begins_74 (by decide) ?_
  exact hK3 _ _ hw
def g_X21_begins_L3 (x0 x1 x2 x3 : Int) (Q : Hp → Prop) (K3 : Int → Hp → Prop) (l4 : Int) (h : Hp) : Prop :=
  (((hF h x0 1) ≤ l4) → (g_X21_begins_b77 x0 x1 x2 x3 Q h)) ∧ ((l4 < (hF h x0 1)) → (((l4 = x3) → (g_X21_begins_b71 x0 x1 x2 x3 Q K3 l4 h)) ∧ ((l4 ≠ x3) → (((0 : Int) ≤ l4 ∧ l4 < 10) ∧ ((((hA h (x0 + 1) l4) ≠ 1) → (g_X21_begins_b71 x0 x1 x2 x3 Q K3 l4 h)) ∧ (((hA h (x0 + 1) l4) = 1) → ((Lay_X7 h (hF h x0 0)) ∧ (g_X7_isAhead (hF h x0 0) l4 x3 (fun r36 m36 => Ext h m36 → (((r36 ≠ 0) → (((0 : Int) ≤ l4 ∧ l4 < 10) ∧ (((0 : Int) ≤ l4 ∧ l4 < 10) ∧ (∀ m57 : Hp, m57 = setA m36 (x0 + 10) l4 (bOr (hA m36 (x0 + 10) l4) (bShl 1 x3)) → (((0 : Int) ≤ x3 ∧ x3 < 10) ∧ (((0 : Int) ≤ x3 ∧ x3 < 10) ∧ (∀ m70 : Hp, m70 = setA m57 (x0 + 11) x3 (bOr (hA m57 (x0 + 11) x3) (bShl 1 l4)) → (g_X21_begins_b71 x0 x1 x2 x3 Q K3 l4 m70)))))))) ∧ ((r36 = 0) → (g_X21_begins_b71 x0 x1 x2 x3 Q K3 l4 m36)))) h))))))))
theorem w_X21_begins_3 {G : GT} {X : ET} {h0 : Hp} {x0 x1 x2 x3 : Int} (HE : XE G X cX21_begins 5 RX21 5 110 h0) (hr : XR X none) (f0 : Lay_X21 h0 x0) {Q : Hp → Prop} {K3 : Int → Hp → Prop} (hK3 : ∀ (l4 : Int) (h : Hp), K3 l4 h → Wx G X h0 (QV Q) h 3 [some (rV x0), some (iV x1), some (iV x2), some (iV x3), some (iV l4)] []) {l4 : Int} {h : Hp} (hw : g_X21_begins_L3 x0 x1 x2 x3 Q K3 l4 h) : Wx G X h0 (QV Q) h 3 [some (rV x0), some (iV x1), some (iV x2), some (iV x3), some (iV l4)] [] := by
  refine Wx.start (fun EB => ?_)
  unfold g_X21_begins_L3 at hw
  refine x_iload HE dX21_begins_3 rfl ?_
  refine x_aload_n HE 0 dX21_begins_5 rfl rfl ?_
  refine x_gI HE dX21_begins_6 fd_X21_1 q1123 (Or.inl rfl) (Lay_X21.tag (f0.ext EB)) rfl ?_
  refine x_ic_ge HE 77 dX21_begins_9 (by decide) (fun c9 => ?_) (fun c9 => ?_)
  · have hw := hw.1 c9
    refine Wx.mask [true, true, true, true, false] (lo2 := [some (rV x0), some (iV x1), some (iV x2), some (iV x3), none]) rfl ?_
    exact w_X21_begins_77 HE hr f0 hw
  · have hw := hw.2 c9
    refine x_iload HE dX21_begins_12 rfl ?_
    refine x_iload_n HE 3 dX21_begins_14 rfl rfl ?_
    refine x_ic_eq HE 71 dX21_begins_15 (by decide) (fun c15 => ?_) (fun c15 => ?_)
    · have hw := hw.1 c15
      exact w_X21_begins_71 HE hr f0 hK3 hw
    · have hw := hw.2 c15
      refine x_aload_n HE 0 dX21_begins_18 rfl rfl ?_
      refine x_gR HE dX21_begins_19 fd_X21_2 q1124 (Or.inl rfl) (Lay_X21.tag (f0.ext EB)) (Lay_X21_2 (f0.ext EB)).1 ?_
      refine x_iload HE dX21_begins_22 rfl ?_
      obtain ⟨i24, hw⟩ := hw
      refine x_iald HE dX21_begins_24 (t := 1) (by decide) ((Lay_X21_2 (f0.ext EB)).2.1) (ix_of ((Lay_X21_2 (f0.ext EB)).2.2) i24) rfl ?_
      refine x_iconst HE dX21_begins_25 (by decide) ?_
      refine x_ic_ne HE 71 dX21_begins_26 (by decide) (fun c26 => ?_) (fun c26 => ?_)
      · have hw := hw.1 c26
        exact w_X21_begins_71 HE hr f0 hK3 hw
      · have hw := hw.2 c26
        refine x_aload_n HE 0 dX21_begins_29 rfl rfl ?_
        refine x_gR HE dX21_begins_30 fd_X21_0 q1122 (Or.inl rfl) (Lay_X21.tag (f0.ext EB)) rfl ?_
        refine x_iload HE dX21_begins_33 rfl ?_
        refine x_iload_n HE 3 dX21_begins_35 rfl rfl ?_
        obtain ⟨u36_0, hw⟩ := hw
        refine x_callV HE dX21_begins_36 rfl (fun l => k_X7_isAhead u36_0 l hw) (As := [iV l4, iV x3]) (rest := []) rfl xc12 (Lay_X7.tag u36_0) (lw_V q1349 q1350 q1351 q132 q1352) hy_X7_isAhead rfl rfl (Nat.le_of_ble_eq_true rfl) (Nat.le_of_ble_eq_true rfl) (Nat.le_of_ble_eq_true rfl) (kkI (fun r36 m36 E36 hw => ?_))
        have hw := hw E36
        refine x_if_ne HE 45 dX21_begins_39 (by decide) (fun c39 => ?_) (fun c39 => ?_)
        · have hw := hw.1 c39
          refine x_aload_n HE 0 dX21_begins_45 rfl rfl ?_
          refine x_gR HE dX21_begins_46 fd_X21_11 q1145 (Or.inl rfl) (Lay_X21.tag (f0.ext (EB.tr E36))) (Lay_X21_11 (f0.ext (EB.tr E36))).1 ?_
          refine x_iload HE dX21_begins_49 rfl ?_
          refine x_dup2 HE dX21_begins_51 (fun o => o) (fun o => o) ?_
          obtain ⟨i52, hw⟩ := hw
          refine x_iald HE dX21_begins_52 (t := 1) (by decide) ((Lay_X21_11 (f0.ext (EB.tr E36))).2.1) (ix_of ((Lay_X21_11 (f0.ext (EB.tr E36))).2.2) i52) rfl ?_
          refine x_iconst HE dX21_begins_53 (by decide) ?_
          refine x_iload_n HE 3 dX21_begins_54 rfl rfl ?_
          refine x_ishl HE dX21_begins_55 ?_
          refine x_ior HE dX21_begins_56 ?_
          obtain ⟨i57, hw⟩ := hw
          refine x_iast HE dX21_begins_57 ((Lay_X21_11 (f0.ext (EB.tr E36))).2.1) (ix_of ((Lay_X21_11 (f0.ext (EB.tr E36))).2.2) i57) (fun m57 em57 E57 => ?_)
          have hw := hw m57 em57
          refine x_aload_n HE 0 dX21_begins_58 rfl rfl ?_
          refine x_gR HE dX21_begins_59 fd_X21_12 q1147 (Or.inl rfl) (Lay_X21.tag (f0.ext (EB.tr (E36.tr E57)))) (Lay_X21_12 (f0.ext (EB.tr (E36.tr E57)))).1 ?_
          refine x_iload_n HE 3 dX21_begins_62 rfl rfl ?_
          refine x_dup2 HE dX21_begins_63 (fun o => o) (fun o => o) ?_
          obtain ⟨i64, hw⟩ := hw
          refine x_iald HE dX21_begins_64 (t := 1) (by decide) ((Lay_X21_12 (f0.ext (EB.tr (E36.tr E57)))).2.1) (ix_of ((Lay_X21_12 (f0.ext (EB.tr (E36.tr E57)))).2.2) i64) rfl ?_
          refine x_iconst HE dX21_begins_65 (by decide) ?_
          refine x_iload HE dX21_begins_66 rfl ?_
          refine x_ishl HE dX21_begins_68 ?_
          refine x_ior HE dX21_begins_69 ?_
          obtain ⟨i70, hw⟩ := hw
          refine x_iast HE dX21_begins_70 ((Lay_X21_12 (f0.ext (EB.tr (E36.tr E57)))).2.1) (ix_of ((Lay_X21_12 (f0.ext (EB.tr (E36.tr E57)))).2.2) i70) (fun m70 em70 E70 => ?_)
          have hw := hw m70 em70
          exact w_X21_begins_71 HE hr f0 hK3 hw
        · have hw := hw.2 c39
          refine x_goto HE 71 dX21_begins_42 (by decide) ?_
          exact w_X21_begins_71 HE hr f0 hK3 hw
theorem wl_X21_begins_3 {G : GT} {X : ET} {h0 : Hp} {x0 x1 x2 x3 : Int} (HE : XE G X cX21_begins 5 RX21 5 110 h0) (hr : XR X none) (f0 : Lay_X21 h0 x0) {Q : Hp → Prop} {l4 : Int} {h : Hp} (hw : Lp1 (g_X21_begins_L3 x0 x1 x2 x3 Q) l4 h) : Wx G X h0 (QV Q) h 3 [some (rV x0), some (iV x1), some (iV x2), some (iV x3), some (iV l4)] [] := by
  obtain ⟨n, hw⟩ := hw
  induction n generalizing l4 h with
  | zero => exact hw.elim
  | succ n ih => exact w_X21_begins_3 HE hr f0 (fun _ _ hk => ih hk) hw
def g_X21_begins (x0 x1 x2 x3 : Int) (Q : Hp → Prop) (h : Hp) : Prop :=
  Lp1 (g_X21_begins_L3 x0 x1 x2 x3 Q) 0 h
theorem w_X21_begins_0 {G : GT} {X : ET} {h0 : Hp} {x0 x1 x2 x3 : Int} (HE : XE G X cX21_begins 5 RX21 5 110 h0) (hr : XR X none) (f0 : Lay_X21 h0 x0) {Q : Hp → Prop} {h : Hp} (hw : g_X21_begins x0 x1 x2 x3 Q h) : Wx G X h0 (QV Q) h 0 [some (rV x0), some (iV x1), some (iV x2), some (iV x3), none] [] := by
  refine Wx.start (fun EB => ?_)
  unfold g_X21_begins at hw
  refine x_iconst HE dX21_begins_0 (by decide) ?_
  refine x_istore HE (lo' := [some (rV x0), some (iV x1), some (iV x2), some (iV x3), some (iV 0)]) dX21_begins_1 (Nat.le_of_ble_eq_true rfl) rfl ?_
  exact wl_X21_begins_3 HE hr f0 hw
theorem k_X21_begins {G : GT} {x0 x1 x2 x3 : Int} {Q : Hp → Prop} {h : Hp} (f0 : Lay_X21 h x0) (l : Launch) (hw : g_X21_begins x0 x1 x2 x3 Q h) : XM G l yX21_begins cX21_begins 5 none 5 110 [rV x0, iV x1, iV x2, iV x3] (QV Q) h :=
  XM.of (by decide) (Nat.le_of_ble_eq_true rfl) (fun X HE hr hn => w_X21_begins_0 HE hr f0 hw)
def g_X21_serves_b45 (x0 x1 : Int) (Q : Hp → Prop) (h : Hp) : Prop :=
  Q h
theorem w_X21_serves_45 {G : GT} {X : ET} {h0 : Hp} {x0 x1 : Int} (HE : XE G X cX21_serves 4 RX21 6 134 h0) (hr : XR X none) (f0 : Lay_X21 h0 x0) {Q : Hp → Prop} {h : Hp} (hw : g_X21_serves_b45 x0 x1 Q  h) : Wx G X h0 (QV Q) h 45 [some (rV x0), some (iV x1), none, none] [] := by
  refine Wx.start (fun EB => ?_)
  unfold g_X21_serves_b45 at hw
  exact x_vret HE hr dX21_serves_45 hw
def g_X21_serves_L12 (x0 x1 : Int) (Q : Hp → Prop) (K12 : Int → Int → Hp → Prop) (l2 l3 : Int) (h : Hp) : Prop :=
  ((l2 = (-1)) → (g_X21_serves_b45 x0 x1 Q h)) ∧ ((l2 ≠ (-1)) → (((l3 = (-2)) → (g_X21_serves_b45 x0 x1 Q h)) ∧ ((l3 ≠ (-2)) → (g_X21_begins x0 x1 l2 l3 (fun m27 => Ext h m27 → (g_X21_freeHand x0 x1 (fun r32 m32 => Ext m27 m32 → (g_X21_next x0 x1 (fun r38 m38 => Ext m32 m38 → (K12 r32 r38 m38)) m32)) m27)) h))))
theorem w_X21_serves_12 {G : GT} {X : ET} {h0 : Hp} {x0 x1 : Int} (HE : XE G X cX21_serves 4 RX21 6 134 h0) (hr : XR X none) (f0 : Lay_X21 h0 x0) {Q : Hp → Prop} {K12 : Int → Int → Hp → Prop} (hK12 : ∀ (l2 l3 : Int) (h : Hp), K12 l2 l3 h → Wx G X h0 (QV Q) h 12 [some (rV x0), some (iV x1), some (iV l2), some (iV l3)] []) {l2 l3 : Int} {h : Hp} (hw : g_X21_serves_L12 x0 x1 Q K12 l2 l3 h) : Wx G X h0 (QV Q) h 12 [some (rV x0), some (iV x1), some (iV l2), some (iV l3)] [] := by
  refine Wx.start (fun EB => ?_)
  unfold g_X21_serves_L12 at hw
  refine x_iload_n HE 2 dX21_serves_12 rfl rfl ?_
  refine x_iconst HE dX21_serves_13 (by decide) ?_
  refine x_ic_eq HE 45 dX21_serves_14 (by decide) (fun c14 => ?_) (fun c14 => ?_)
  · have hw := hw.1 c14
    refine Wx.mask [true, true, false, false] (lo2 := [some (rV x0), some (iV x1), none, none]) rfl ?_
    exact w_X21_serves_45 HE hr f0 hw
  · have hw := hw.2 c14
    refine x_iload_n HE 3 dX21_serves_17 rfl rfl ?_
    refine x_bipush HE dX21_serves_18 (by decide) ?_
    refine x_ic_eq HE 45 dX21_serves_20 (by decide) (fun c20 => ?_) (fun c20 => ?_)
    · have hw := hw.1 c20
      refine Wx.mask [true, true, false, false] (lo2 := [some (rV x0), some (iV x1), none, none]) rfl ?_
      exact w_X21_serves_45 HE hr f0 hw
    · have hw := hw.2 c20
      refine x_aload_n HE 0 dX21_serves_23 rfl rfl ?_
      refine x_iload_n HE 1 dX21_serves_24 rfl rfl ?_
      refine x_iload_n HE 2 dX21_serves_25 rfl rfl ?_
      refine x_iload_n HE 3 dX21_serves_26 rfl rfl ?_
      refine x_callV HE dX21_serves_27 rfl (fun l => k_X21_begins (f0.ext EB) l hw) (As := [iV x1, iV l2, iV l3]) (rest := []) rfl xc13 (Lay_X21.tag (f0.ext EB)) (lw_V q1411 q1413 qs36 q157 q1414) hy_X21_begins rfl rfl (Nat.le_of_ble_eq_true rfl) (Nat.le_of_ble_eq_true rfl) (Nat.le_of_ble_eq_true rfl) (kkV (fun m27 E27 hw => ?_))
      have hw := hw E27
      refine x_aload_n HE 0 dX21_serves_30 rfl rfl ?_
      refine x_iload_n HE 1 dX21_serves_31 rfl rfl ?_
      refine x_callV HE dX21_serves_32 rfl (fun l => k_X21_freeHand (f0.ext (EB.tr E27)) l hw) (As := [iV x1]) (rest := []) rfl xc13 (Lay_X21.tag (f0.ext (EB.tr E27))) (lw_V q1406 q1408 qs35 q157 q1409) hy_X21_freeHand rfl rfl (Nat.le_of_ble_eq_true rfl) (Nat.le_of_ble_eq_true rfl) (Nat.le_of_ble_eq_true rfl) (kkI (fun r32 m32 E32 hw => ?_))
      have hw := hw E32
      refine x_istore_n HE 2 (lo' := [some (rV x0), some (iV x1), some (iV r32), some (iV l3)]) dX21_serves_35 rfl (Nat.le_of_ble_eq_true rfl) rfl ?_
      refine x_aload_n HE 0 dX21_serves_36 rfl rfl ?_
      refine x_iload_n HE 1 dX21_serves_37 rfl rfl ?_
      refine x_callV HE dX21_serves_38 rfl (fun l => k_X21_next (f0.ext (EB.tr (E27.tr E32))) l hw) (As := [iV x1]) (rest := []) rfl xc13 (Lay_X21.tag (f0.ext (EB.tr (E27.tr E32)))) (lw_V q1410 q1316 q1317 q157 q1318) hy_X21_next rfl rfl (Nat.le_of_ble_eq_true rfl) (Nat.le_of_ble_eq_true rfl) (Nat.le_of_ble_eq_true rfl) (kkI (fun r38 m38 E38 hw => ?_))
      have hw := hw E38
      refine x_istore_n HE 3 (lo' := [some (rV x0), some (iV x1), some (iV r32), some (iV r38)]) dX21_serves_41 rfl (Nat.le_of_ble_eq_true rfl) rfl ?_
      refine x_goto HE 12 dX21_serves_42 (by decide) ?_
      exact hK12 _ _ _ hw
theorem wl_X21_serves_12 {G : GT} {X : ET} {h0 : Hp} {x0 x1 : Int} (HE : XE G X cX21_serves 4 RX21 6 134 h0) (hr : XR X none) (f0 : Lay_X21 h0 x0) {Q : Hp → Prop} {l2 l3 : Int} {h : Hp} (hw : Lp2 (g_X21_serves_L12 x0 x1 Q) l2 l3 h) : Wx G X h0 (QV Q) h 12 [some (rV x0), some (iV x1), some (iV l2), some (iV l3)] [] := by
  obtain ⟨n, hw⟩ := hw
  induction n generalizing l2 l3 h with
  | zero => exact hw.elim
  | succ n ih => exact w_X21_serves_12 HE hr f0 (fun _ _ _ hk => ih hk) hw
def g_X21_serves (x0 x1 : Int) (Q : Hp → Prop) (h : Hp) : Prop :=
  g_X21_freeHand x0 x1 (fun r2 m2 => Ext h m2 → (g_X21_next x0 x1 (fun r8 m8 => Ext m2 m8 → (Lp2 (g_X21_serves_L12 x0 x1 Q) r2 r8 m8)) m2)) h
theorem w_X21_serves_0 {G : GT} {X : ET} {h0 : Hp} {x0 x1 : Int} (HE : XE G X cX21_serves 4 RX21 6 134 h0) (hr : XR X none) (f0 : Lay_X21 h0 x0) {Q : Hp → Prop} {h : Hp} (hw : g_X21_serves x0 x1 Q h) : Wx G X h0 (QV Q) h 0 [some (rV x0), some (iV x1), none, none] [] := by
  refine Wx.start (fun EB => ?_)
  unfold g_X21_serves at hw
  refine x_aload_n HE 0 dX21_serves_0 rfl rfl ?_
  refine x_iload_n HE 1 dX21_serves_1 rfl rfl ?_
  refine x_callV HE dX21_serves_2 rfl (fun l => k_X21_freeHand (f0.ext EB) l hw) (As := [iV x1]) (rest := []) rfl xc13 (Lay_X21.tag (f0.ext EB)) (lw_V q1406 q1408 qs35 q157 q1409) hy_X21_freeHand rfl rfl (Nat.le_of_ble_eq_true rfl) (Nat.le_of_ble_eq_true rfl) (Nat.le_of_ble_eq_true rfl) (kkI (fun r2 m2 E2 hw => ?_))
  have hw := hw E2
  refine x_istore_n HE 2 (lo' := [some (rV x0), some (iV x1), some (iV r2), none]) dX21_serves_5 rfl (Nat.le_of_ble_eq_true rfl) rfl ?_
  refine x_aload_n HE 0 dX21_serves_6 rfl rfl ?_
  refine x_iload_n HE 1 dX21_serves_7 rfl rfl ?_
  refine x_callV HE dX21_serves_8 rfl (fun l => k_X21_next (f0.ext (EB.tr E2)) l hw) (As := [iV x1]) (rest := []) rfl xc13 (Lay_X21.tag (f0.ext (EB.tr E2))) (lw_V q1410 q1316 q1317 q157 q1318) hy_X21_next rfl rfl (Nat.le_of_ble_eq_true rfl) (Nat.le_of_ble_eq_true rfl) (Nat.le_of_ble_eq_true rfl) (kkI (fun r8 m8 E8 hw => ?_))
  have hw := hw E8
  refine x_istore_n HE 3 (lo' := [some (rV x0), some (iV x1), some (iV r2), some (iV r8)]) dX21_serves_11 rfl (Nat.le_of_ble_eq_true rfl) rfl ?_
  exact wl_X21_serves_12 HE hr f0 hw
theorem k_X21_serves {G : GT} {x0 x1 : Int} {Q : Hp → Prop} {h : Hp} (f0 : Lay_X21 h x0) (l : Launch) (hw : g_X21_serves x0 x1 Q h) : XM G l yX21_serves cX21_serves 4 none 6 134 [rV x0, iV x1] (QV Q) h :=
  XM.of (by decide) (Nat.le_of_ble_eq_true rfl) (fun X HE hr hn => w_X21_serves_0 HE hr f0 hw)
def g_X21_goes_b197 (x0 : Int) (Q : Hp → Prop) (h : Hp) : Prop :=
  (i32 ((hF h x0 24) + 1)) ∧ (∀ m204 : Hp, m204 = setF h x0 24 ((hF h x0 24) + 1) → (Q m204))
theorem w_X21_goes_197 {G : GT} {X : ET} {h0 : Hp} {x0 : Int} (HE : XE G X cX21_goes 2 RX21 7 157 h0) (hr : XR X none) (f0 : Lay_X21 h0 x0) {Q : Hp → Prop} {h : Hp} (hw : g_X21_goes_b197 x0 Q  h) : Wx G X h0 (QV Q) h 197 [some (rV x0), none] [] := by
  refine Wx.start (fun EB => ?_)
  unfold g_X21_goes_b197 at hw
  refine x_aload_n HE 0 dX21_goes_197 rfl rfl ?_
  refine x_dup HE dX21_goes_198 (fun o => o) ?_
  refine x_gI HE dX21_goes_199 fd_X21_24 q1171 (Or.inl rfl) (Lay_X21.tag (f0.ext EB)) rfl ?_
  refine x_iconst HE dX21_goes_202 (by decide) ?_
  obtain ⟨v203, hw⟩ := hw
  refine x_iadd HE dX21_goes_203 v203 ?_
  refine x_pI HE dX21_goes_204 fd_X21_24 q1171 (Or.inl rfl) (Or.inl rfl) (nf_int _) (Lay_X21.tag (f0.ext EB)) (nro (by decide)) (Or.inl nf_X21_24) (fun m204 em204 E204 => ?_)
  have hw := hw m204 em204
  exact x_vret HE hr dX21_goes_207 hw
def g_X21_goes_L178 (x0 : Int) (Q : Hp → Prop) (K178 : Int → Hp → Prop) (l1 : Int) (h : Hp) : Prop :=
  (((hF h x0 23) ≤ l1) → (g_X21_goes_b197 x0 Q h)) ∧ ((l1 < (hF h x0 23)) → (g_X21_serves x0 l1 (fun m188 => Ext h m188 → ((i32 (l1 + 1)) ∧ (∀ y191 : Int, y191 = l1 + 1 → (K178 y191 m188)))) h))
theorem w_X21_goes_178 {G : GT} {X : ET} {h0 : Hp} {x0 : Int} (HE : XE G X cX21_goes 2 RX21 7 157 h0) (hr : XR X none) (f0 : Lay_X21 h0 x0) {Q : Hp → Prop} {K178 : Int → Hp → Prop} (hK178 : ∀ (l1 : Int) (h : Hp), K178 l1 h → Wx G X h0 (QV Q) h 178 [some (rV x0), some (iV l1)] []) {l1 : Int} {h : Hp} (hw : g_X21_goes_L178 x0 Q K178 l1 h) : Wx G X h0 (QV Q) h 178 [some (rV x0), some (iV l1)] [] := by
  refine Wx.start (fun EB => ?_)
  unfold g_X21_goes_L178 at hw
  refine x_iload_n HE 1 dX21_goes_178 rfl rfl ?_
  refine x_aload_n HE 0 dX21_goes_179 rfl rfl ?_
  refine x_gI HE dX21_goes_180 fd_X21_23 q1169 (Or.inl rfl) (Lay_X21.tag (f0.ext EB)) rfl ?_
  refine x_ic_ge HE 197 dX21_goes_183 (by decide) (fun c183 => ?_) (fun c183 => ?_)
  · have hw := hw.1 c183
    refine Wx.mask [true, false] (lo2 := [some (rV x0), none]) rfl ?_
    exact w_X21_goes_197 HE hr f0 hw
  · have hw := hw.2 c183
    refine x_aload_n HE 0 dX21_goes_186 rfl rfl ?_
    refine x_iload_n HE 1 dX21_goes_187 rfl rfl ?_
    refine x_callV HE dX21_goes_188 rfl (fun l => k_X21_serves (f0.ext EB) l hw) (As := [iV l1]) (rest := []) rfl xc13 (Lay_X21.tag (f0.ext EB)) (lw_V q1402 q1404 qs34 q157 q1405) hy_X21_serves rfl rfl (Nat.le_of_ble_eq_true rfl) (Nat.le_of_ble_eq_true rfl) (Nat.le_of_ble_eq_true rfl) (kkV (fun m188 E188 hw => ?_))
    have hw := hw E188
    obtain ⟨v191, hw⟩ := hw
    refine x_iincN HE (fun y191 => [some (rV x0), some (iV y191)]) dX21_goes_191 rfl v191 (Nat.le_of_ble_eq_true rfl) (fun _ => rfl) (fun y191 ey191 => ?_)
    have hw := hw y191 ey191
    refine x_goto HE 178 dX21_goes_194 (by decide) ?_
    exact hK178 _ _ hw
theorem wl_X21_goes_178 {G : GT} {X : ET} {h0 : Hp} {x0 : Int} (HE : XE G X cX21_goes 2 RX21 7 157 h0) (hr : XR X none) (f0 : Lay_X21 h0 x0) {Q : Hp → Prop} {l1 : Int} {h : Hp} (hw : Lp1 (g_X21_goes_L178 x0 Q) l1 h) : Wx G X h0 (QV Q) h 178 [some (rV x0), some (iV l1)] [] := by
  obtain ⟨n, hw⟩ := hw
  induction n generalizing l1 h with
  | zero => exact hw.elim
  | succ n ih => exact w_X21_goes_178 HE hr f0 (fun _ _ hk => ih hk) hw
def g_X21_goes_b176 (x0 : Int) (Q : Hp → Prop) (h : Hp) : Prop :=
  Lp1 (g_X21_goes_L178 x0 Q) 0 h
theorem w_X21_goes_176 {G : GT} {X : ET} {h0 : Hp} {x0 : Int} (HE : XE G X cX21_goes 2 RX21 7 157 h0) (hr : XR X none) (f0 : Lay_X21 h0 x0) {Q : Hp → Prop} {h : Hp} (hw : g_X21_goes_b176 x0 Q  h) : Wx G X h0 (QV Q) h 176 [some (rV x0), none] [] := by
  refine Wx.start (fun EB => ?_)
  unfold g_X21_goes_b176 at hw
  refine x_iconst HE dX21_goes_176 (by decide) ?_
  refine x_istore_n HE 1 (lo' := [some (rV x0), some (iV 0)]) dX21_goes_177 rfl (Nat.le_of_ble_eq_true rfl) rfl ?_
  exact wl_X21_goes_178 HE hr f0 hw
def g_X21_goes_b170 (x0 : Int) (Q : Hp → Prop) (K58 : Int → Hp → Prop) (l1 : Int) (h : Hp) : Prop :=
  (i32 (l1 + 1)) ∧ (∀ y170 : Int, y170 = l1 + 1 → (K58 y170 h))
theorem w_X21_goes_170 {G : GT} {X : ET} {h0 : Hp} {x0 : Int} (HE : XE G X cX21_goes 2 RX21 7 157 h0) (hr : XR X none) (f0 : Lay_X21 h0 x0) {Q : Hp → Prop} {K58 : Int → Hp → Prop} (hK58 : ∀ (l1 : Int) (h : Hp), K58 l1 h → Wx G X h0 (QV Q) h 58 [some (rV x0), some (iV l1)] []) {l1 : Int} {h : Hp} (hw : g_X21_goes_b170 x0 Q K58 l1 h) : Wx G X h0 (QV Q) h 170 [some (rV x0), some (iV l1)] [] := by
  refine Wx.start (fun EB => ?_)
  unfold g_X21_goes_b170 at hw
  obtain ⟨v170, hw⟩ := hw
  refine x_iincN HE (fun y170 => [some (rV x0), some (iV y170)]) dX21_goes_170 rfl v170 (Nat.le_of_ble_eq_true rfl) (fun _ => rfl) (fun y170 ey170 => ?_)
  have hw := hw y170 ey170
  refine x_goto HE 58 dX21_goes_173 (by decide) ?_
  exact hK58 _ _ hw
def g_X21_goes_b122 (x0 : Int) (Q : Hp → Prop) (K58 : Int → Hp → Prop) (l1 : Int) (h : Hp) : Prop :=
  (Lay_X7 h (hF h x0 0)) ∧ (g_J2_get ((hF h x0 0) + 3) l1 (fun r134 m134 => Ext h m134 → ((Lay_X17 m134 r134) ∧ ((i32 ((hF h x0 24) - (hF m134 r134 3))) ∧ ((Lay_X7 m134 (hF m134 x0 0)) ∧ (g_J2_get ((hF m134 x0 0) + 3) l1 (fun r152 m152 => Ext m134 m152 → ((Lay_X17 m152 r152) ∧ (((((hF h x0 24) - (hF m134 r134 3)) < (hF m152 r152 5)) → (g_X21_goes_b170 x0 Q K58 l1 m152)) ∧ (((hF m152 r152 5) ≤ ((hF h x0 24) - (hF m134 r134 3))) → (g_X21_ends x0 l1 4 (fun m167 => Ext m152 m167 → (g_X21_goes_b170 x0 Q K58 l1 m167)) m152))))) m134))))) h)
theorem w_X21_goes_122 {G : GT} {X : ET} {h0 : Hp} {x0 : Int} (HE : XE G X cX21_goes 2 RX21 7 157 h0) (hr : XR X none) (f0 : Lay_X21 h0 x0) {Q : Hp → Prop} {K58 : Int → Hp → Prop} (hK58 : ∀ (l1 : Int) (h : Hp), K58 l1 h → Wx G X h0 (QV Q) h 58 [some (rV x0), some (iV l1)] []) {l1 : Int} {h : Hp} (hw : g_X21_goes_b122 x0 Q K58 l1 h) : Wx G X h0 (QV Q) h 122 [some (rV x0), some (iV l1)] [] := by
  refine Wx.start (fun EB => ?_)
  unfold g_X21_goes_b122 at hw
  refine x_aload_n HE 0 dX21_goes_122 rfl rfl ?_
  refine x_gI HE dX21_goes_123 fd_X21_24 q1171 (Or.inl rfl) (Lay_X21.tag (f0.ext EB)) rfl ?_
  refine x_aload_n HE 0 dX21_goes_126 rfl rfl ?_
  refine x_gR HE dX21_goes_127 fd_X21_0 q1122 (Or.inl rfl) (Lay_X21.tag (f0.ext EB)) rfl ?_
  obtain ⟨v130, hw⟩ := hw
  refine x_gR HE dX21_goes_130 fd_X7_5 q328 (Or.inl rfl) (Lay_X7.tag v130) (Lay_X7_5 v130).1 ?_
  refine x_iload_n HE 1 dX21_goes_133 rfl rfl ?_
  refine x_callV HE dX21_goes_134 rfl (fun l => k_J2_get ((Lay_X7_5 v130).2) l hw) (As := [iV l1]) (rest := [iV (hF h x0 24)]) rfl xc32 ((Lay_X7_5 v130).2) (lw_V q1087 q736 q737 q128 q738) hy_J2_get rfl rfl (Nat.le_of_ble_eq_true rfl) (Nat.le_of_ble_eq_true rfl) (Nat.le_of_ble_eq_true rfl) (kkR (fun r134 m134 E134 hw => ?_))
  have hw := hw E134
  obtain ⟨v137, hw⟩ := hw
  refine x_castS HE dX21_goes_137 xc14 q1088 (Lay_X17.tag v137) ?_
  refine x_gI HE dX21_goes_140 fd_X17_3 q986 (Or.inl rfl) (Lay_X17.tag v137) rfl ?_
  obtain ⟨v143, hw⟩ := hw
  refine x_isub HE dX21_goes_143 v143 ?_
  refine x_aload_n HE 0 dX21_goes_144 rfl rfl ?_
  refine x_gR HE dX21_goes_145 fd_X21_0 q1122 (Or.inl rfl) (Lay_X21.tag (f0.ext (EB.tr E134))) rfl ?_
  obtain ⟨v148, hw⟩ := hw
  refine x_gR HE dX21_goes_148 fd_X7_5 q328 (Or.inl rfl) (Lay_X7.tag v148) (Lay_X7_5 v148).1 ?_
  refine x_iload_n HE 1 dX21_goes_151 rfl rfl ?_
  refine x_callV HE dX21_goes_152 rfl (fun l => k_J2_get ((Lay_X7_5 v148).2) l hw) (As := [iV l1]) (rest := [iV ((hF h x0 24) - (hF m134 r134 3))]) rfl xc32 ((Lay_X7_5 v148).2) (lw_V q1087 q736 q737 q128 q738) hy_J2_get rfl rfl (Nat.le_of_ble_eq_true rfl) (Nat.le_of_ble_eq_true rfl) (Nat.le_of_ble_eq_true rfl) (kkR (fun r152 m152 E152 hw => ?_))
  have hw := hw E152
  obtain ⟨v155, hw⟩ := hw
  refine x_castS HE dX21_goes_155 xc14 q1088 (Lay_X17.tag v155) ?_
  refine x_gI HE dX21_goes_158 fd_X17_5 q992 (Or.inl rfl) (Lay_X17.tag v155) rfl ?_
  refine x_ic_lt HE 170 dX21_goes_161 (by decide) (fun c161 => ?_) (fun c161 => ?_)
  · have hw := hw.1 c161
    exact w_X21_goes_170 HE hr f0 hK58 hw
  · have hw := hw.2 c161
    refine x_aload_n HE 0 dX21_goes_164 rfl rfl ?_
    refine x_iload_n HE 1 dX21_goes_165 rfl rfl ?_
    refine x_iconst HE dX21_goes_166 (by decide) ?_
    refine x_callV HE dX21_goes_167 rfl (fun l => k_X21_ends (f0.ext (EB.tr (E134.tr E152))) l hw) (As := [iV l1, iV 4]) (rest := []) rfl xc13 (Lay_X21.tag (f0.ext (EB.tr (E134.tr E152)))) (lw_V q1398 q1400 qs33 q157 q1401) hy_X21_ends rfl rfl (Nat.le_of_ble_eq_true rfl) (Nat.le_of_ble_eq_true rfl) (Nat.le_of_ble_eq_true rfl) (kkV (fun m167 E167 hw => ?_))
    have hw := hw E167
    exact w_X21_goes_170 HE hr f0 hK58 hw
def g_X21_goes_L58 (x0 : Int) (Q : Hp → Prop) (K58 : Int → Hp → Prop) (l1 : Int) (h : Hp) : Prop :=
  (((hF h x0 1) ≤ l1) → (g_X21_goes_b176 x0 Q h)) ∧ ((l1 < (hF h x0 1)) → (((0 : Int) ≤ l1 ∧ l1 < 10) ∧ ((((hA h (x0 + 1) l1) = 1) → (((0 : Int) ≤ l1 ∧ l1 < 10) ∧ ((((hA h (x0 + 5) l1) = (-2)) → (g_X21_goes_b122 x0 Q K58 l1 h)) ∧ (((hA h (x0 + 5) l1) ≠ (-2)) → (((0 : Int) ≤ l1 ∧ l1 < 10) ∧ ((((hF h x0 24) < (hA h (x0 + 5) l1)) → (g_X21_goes_b122 x0 Q K58 l1 h)) ∧ (((hA h (x0 + 5) l1) ≤ (hF h x0 24)) → (g_X21_ends x0 l1 3 (fun m106 => Ext h m106 → (((0 : Int) ≤ l1 ∧ l1 < 10) ∧ (∀ m118 : Hp, m118 = setA m106 (x0 + 8) l1 (hF m106 x0 24) → (g_X21_goes_b170 x0 Q K58 l1 m118)))) h)))))))) ∧ (((hA h (x0 + 1) l1) ≠ 1) → (g_X21_goes_b170 x0 Q K58 l1 h)))))
theorem w_X21_goes_58 {G : GT} {X : ET} {h0 : Hp} {x0 : Int} (HE : XE G X cX21_goes 2 RX21 7 157 h0) (hr : XR X none) (f0 : Lay_X21 h0 x0) {Q : Hp → Prop} {K58 : Int → Hp → Prop} (hK58 : ∀ (l1 : Int) (h : Hp), K58 l1 h → Wx G X h0 (QV Q) h 58 [some (rV x0), some (iV l1)] []) {l1 : Int} {h : Hp} (hw : g_X21_goes_L58 x0 Q K58 l1 h) : Wx G X h0 (QV Q) h 58 [some (rV x0), some (iV l1)] [] := by
  refine Wx.start (fun EB => ?_)
  unfold g_X21_goes_L58 at hw
  refine x_iload_n HE 1 dX21_goes_58 rfl rfl ?_
  refine x_aload_n HE 0 dX21_goes_59 rfl rfl ?_
  refine x_gI HE dX21_goes_60 fd_X21_1 q1123 (Or.inl rfl) (Lay_X21.tag (f0.ext EB)) rfl ?_
  refine x_ic_ge HE 176 dX21_goes_63 (by decide) (fun c63 => ?_) (fun c63 => ?_)
  · have hw := hw.1 c63
    refine Wx.mask [true, false] (lo2 := [some (rV x0), none]) rfl ?_
    exact w_X21_goes_176 HE hr f0 hw
  · have hw := hw.2 c63
    refine x_aload_n HE 0 dX21_goes_66 rfl rfl ?_
    refine x_gR HE dX21_goes_67 fd_X21_2 q1124 (Or.inl rfl) (Lay_X21.tag (f0.ext EB)) (Lay_X21_2 (f0.ext EB)).1 ?_
    refine x_iload_n HE 1 dX21_goes_70 rfl rfl ?_
    obtain ⟨i71, hw⟩ := hw
    refine x_iald HE dX21_goes_71 (t := 1) (by decide) ((Lay_X21_2 (f0.ext EB)).2.1) (ix_of ((Lay_X21_2 (f0.ext EB)).2.2) i71) rfl ?_
    refine x_iconst HE dX21_goes_72 (by decide) ?_
    refine x_ic_eq HE 79 dX21_goes_73 (by decide) (fun c73 => ?_) (fun c73 => ?_)
    · have hw := hw.1 c73
      refine x_aload_n HE 0 dX21_goes_79 rfl rfl ?_
      refine x_gR HE dX21_goes_80 fd_X21_6 q1136 (Or.inl rfl) (Lay_X21.tag (f0.ext EB)) (Lay_X21_6 (f0.ext EB)).1 ?_
      refine x_iload_n HE 1 dX21_goes_83 rfl rfl ?_
      obtain ⟨i84, hw⟩ := hw
      refine x_iald HE dX21_goes_84 (t := 1) (by decide) ((Lay_X21_6 (f0.ext EB)).2.1) (ix_of ((Lay_X21_6 (f0.ext EB)).2.2) i84) rfl ?_
      refine x_bipush HE dX21_goes_85 (by decide) ?_
      refine x_ic_eq HE 122 dX21_goes_87 (by decide) (fun c87 => ?_) (fun c87 => ?_)
      · have hw := hw.1 c87
        exact w_X21_goes_122 HE hr f0 hK58 hw
      · have hw := hw.2 c87
        refine x_aload_n HE 0 dX21_goes_90 rfl rfl ?_
        refine x_gR HE dX21_goes_91 fd_X21_6 q1136 (Or.inl rfl) (Lay_X21.tag (f0.ext EB)) (Lay_X21_6 (f0.ext EB)).1 ?_
        refine x_iload_n HE 1 dX21_goes_94 rfl rfl ?_
        obtain ⟨i95, hw⟩ := hw
        refine x_iald HE dX21_goes_95 (t := 1) (by decide) ((Lay_X21_6 (f0.ext EB)).2.1) (ix_of ((Lay_X21_6 (f0.ext EB)).2.2) i95) rfl ?_
        refine x_aload_n HE 0 dX21_goes_96 rfl rfl ?_
        refine x_gI HE dX21_goes_97 fd_X21_24 q1171 (Or.inl rfl) (Lay_X21.tag (f0.ext EB)) rfl ?_
        refine x_ic_gt HE 122 dX21_goes_100 (by decide) (fun c100 => ?_) (fun c100 => ?_)
        · have hw := hw.1 c100
          exact w_X21_goes_122 HE hr f0 hK58 hw
        · have hw := hw.2 c100
          refine x_aload_n HE 0 dX21_goes_103 rfl rfl ?_
          refine x_iload_n HE 1 dX21_goes_104 rfl rfl ?_
          refine x_iconst HE dX21_goes_105 (by decide) ?_
          refine x_callV HE dX21_goes_106 rfl (fun l => k_X21_ends (f0.ext EB) l hw) (As := [iV l1, iV 3]) (rest := []) rfl xc13 (Lay_X21.tag (f0.ext EB)) (lw_V q1398 q1400 qs33 q157 q1401) hy_X21_ends rfl rfl (Nat.le_of_ble_eq_true rfl) (Nat.le_of_ble_eq_true rfl) (Nat.le_of_ble_eq_true rfl) (kkV (fun m106 E106 hw => ?_))
          have hw := hw E106
          refine x_aload_n HE 0 dX21_goes_109 rfl rfl ?_
          refine x_gR HE dX21_goes_110 fd_X21_9 q1142 (Or.inl rfl) (Lay_X21.tag (f0.ext (EB.tr E106))) (Lay_X21_9 (f0.ext (EB.tr E106))).1 ?_
          refine x_iload_n HE 1 dX21_goes_113 rfl rfl ?_
          refine x_aload_n HE 0 dX21_goes_114 rfl rfl ?_
          refine x_gI HE dX21_goes_115 fd_X21_24 q1171 (Or.inl rfl) (Lay_X21.tag (f0.ext (EB.tr E106))) rfl ?_
          obtain ⟨i118, hw⟩ := hw
          refine x_iast HE dX21_goes_118 ((Lay_X21_9 (f0.ext (EB.tr E106))).2.1) (ix_of ((Lay_X21_9 (f0.ext (EB.tr E106))).2.2) i118) (fun m118 em118 E118 => ?_)
          have hw := hw m118 em118
          refine x_goto HE 170 dX21_goes_119 (by decide) ?_
          exact w_X21_goes_170 HE hr f0 hK58 hw
    · have hw := hw.2 c73
      refine x_goto HE 170 dX21_goes_76 (by decide) ?_
      exact w_X21_goes_170 HE hr f0 hK58 hw
theorem wl_X21_goes_58 {G : GT} {X : ET} {h0 : Hp} {x0 : Int} (HE : XE G X cX21_goes 2 RX21 7 157 h0) (hr : XR X none) (f0 : Lay_X21 h0 x0) {Q : Hp → Prop} {l1 : Int} {h : Hp} (hw : Lp1 (g_X21_goes_L58 x0 Q) l1 h) : Wx G X h0 (QV Q) h 58 [some (rV x0), some (iV l1)] [] := by
  obtain ⟨n, hw⟩ := hw
  induction n generalizing l1 h with
  | zero => exact hw.elim
  | succ n ih => exact w_X21_goes_58 HE hr f0 (fun _ _ hk => ih hk) hw
def g_X21_goes_b56 (x0 : Int) (Q : Hp → Prop) (h : Hp) : Prop :=
  Lp1 (g_X21_goes_L58 x0 Q) 0 h
theorem w_X21_goes_56 {G : GT} {X : ET} {h0 : Hp} {x0 : Int} (HE : XE G X cX21_goes 2 RX21 7 157 h0) (hr : XR X none) (f0 : Lay_X21 h0 x0) {Q : Hp → Prop} {h : Hp} (hw : g_X21_goes_b56 x0 Q  h) : Wx G X h0 (QV Q) h 56 [some (rV x0), none] [] := by
  refine Wx.start (fun EB => ?_)
  unfold g_X21_goes_b56 at hw
  refine x_iconst HE dX21_goes_56 (by decide) ?_
  refine x_istore_n HE 1 (lo' := [some (rV x0), some (iV 0)]) dX21_goes_57 rfl (Nat.le_of_ble_eq_true rfl) rfl ?_
  exact wl_X21_goes_58 HE hr f0 hw
def g_X21_goes_b50 (x0 : Int) (Q : Hp → Prop) (K2 : Int → Hp → Prop) (l1 : Int) (h : Hp) : Prop :=
  (i32 (l1 + 1)) ∧ (∀ y50 : Int, y50 = l1 + 1 → (K2 y50 h))
theorem w_X21_goes_50 {G : GT} {X : ET} {h0 : Hp} {x0 : Int} (HE : XE G X cX21_goes 2 RX21 7 157 h0) (hr : XR X none) (f0 : Lay_X21 h0 x0) {Q : Hp → Prop} {K2 : Int → Hp → Prop} (hK2 : ∀ (l1 : Int) (h : Hp), K2 l1 h → Wx G X h0 (QV Q) h 2 [some (rV x0), some (iV l1)] []) {l1 : Int} {h : Hp} (hw : g_X21_goes_b50 x0 Q K2 l1 h) : Wx G X h0 (QV Q) h 50 [some (rV x0), some (iV l1)] [] := by
  refine Wx.start (fun EB => ?_)
  unfold g_X21_goes_b50 at hw
  obtain ⟨v50, hw⟩ := hw
  refine x_iincN HE (fun y50 => [some (rV x0), some (iV y50)]) dX21_goes_50 rfl v50 (Nat.le_of_ble_eq_true rfl) (fun _ => rfl) (fun y50 ey50 => ?_)
  have hw := hw y50 ey50
  refine x_goto HE 2 dX21_goes_53 (by decide) ?_
  exact hK2 _ _ hw
def g_X21_goes_L2 (x0 : Int) (Q : Hp → Prop) (K2 : Int → Hp → Prop) (l1 : Int) (h : Hp) : Prop :=
  (((hF h x0 1) ≤ l1) → (g_X21_goes_b56 x0 Q h)) ∧ ((l1 < (hF h x0 1)) → (((0 : Int) ≤ l1 ∧ l1 < 10) ∧ ((((hA h (x0 + 1) l1) ≠ 0) → (g_X21_goes_b50 x0 Q K2 l1 h)) ∧ (((hA h (x0 + 1) l1) = 0) → ((Lay_X7 h (hF h x0 0)) ∧ (g_J2_get ((hF h x0 0) + 3) l1 (fun r27 m27 => Ext h m27 → ((Lay_X17 m27 r27) ∧ ((((hF m27 r27 3) ≠ (hF m27 x0 24)) → (g_X21_goes_b50 x0 Q K2 l1 m27)) ∧ (((hF m27 r27 3) = (hF m27 x0 24)) → (((0 : Int) ≤ l1 ∧ l1 < 10) ∧ (∀ m49 : Hp, m49 = setA m27 (x0 + 1) l1 1 → (g_X21_goes_b50 x0 Q K2 l1 m49))))))) h))))))
theorem w_X21_goes_2 {G : GT} {X : ET} {h0 : Hp} {x0 : Int} (HE : XE G X cX21_goes 2 RX21 7 157 h0) (hr : XR X none) (f0 : Lay_X21 h0 x0) {Q : Hp → Prop} {K2 : Int → Hp → Prop} (hK2 : ∀ (l1 : Int) (h : Hp), K2 l1 h → Wx G X h0 (QV Q) h 2 [some (rV x0), some (iV l1)] []) {l1 : Int} {h : Hp} (hw : g_X21_goes_L2 x0 Q K2 l1 h) : Wx G X h0 (QV Q) h 2 [some (rV x0), some (iV l1)] [] := by
  refine Wx.start (fun EB => ?_)
  unfold g_X21_goes_L2 at hw
  refine x_iload_n HE 1 dX21_goes_2 rfl rfl ?_
  refine x_aload_n HE 0 dX21_goes_3 rfl rfl ?_
  refine x_gI HE dX21_goes_4 fd_X21_1 q1123 (Or.inl rfl) (Lay_X21.tag (f0.ext EB)) rfl ?_
  refine x_ic_ge HE 56 dX21_goes_7 (by decide) (fun c7 => ?_) (fun c7 => ?_)
  · have hw := hw.1 c7
    refine Wx.mask [true, false] (lo2 := [some (rV x0), none]) rfl ?_
    exact w_X21_goes_56 HE hr f0 hw
  · have hw := hw.2 c7
    refine x_aload_n HE 0 dX21_goes_10 rfl rfl ?_
    refine x_gR HE dX21_goes_11 fd_X21_2 q1124 (Or.inl rfl) (Lay_X21.tag (f0.ext EB)) (Lay_X21_2 (f0.ext EB)).1 ?_
    refine x_iload_n HE 1 dX21_goes_14 rfl rfl ?_
    obtain ⟨i15, hw⟩ := hw
    refine x_iald HE dX21_goes_15 (t := 1) (by decide) ((Lay_X21_2 (f0.ext EB)).2.1) (ix_of ((Lay_X21_2 (f0.ext EB)).2.2) i15) rfl ?_
    refine x_if_ne HE 50 dX21_goes_16 (by decide) (fun c16 => ?_) (fun c16 => ?_)
    · have hw := hw.1 c16
      exact w_X21_goes_50 HE hr f0 hK2 hw
    · have hw := hw.2 c16
      refine x_aload_n HE 0 dX21_goes_19 rfl rfl ?_
      refine x_gR HE dX21_goes_20 fd_X21_0 q1122 (Or.inl rfl) (Lay_X21.tag (f0.ext EB)) rfl ?_
      obtain ⟨v23, hw⟩ := hw
      refine x_gR HE dX21_goes_23 fd_X7_5 q328 (Or.inl rfl) (Lay_X7.tag v23) (Lay_X7_5 v23).1 ?_
      refine x_iload_n HE 1 dX21_goes_26 rfl rfl ?_
      refine x_callV HE dX21_goes_27 rfl (fun l => k_J2_get ((Lay_X7_5 v23).2) l hw) (As := [iV l1]) (rest := []) rfl xc32 ((Lay_X7_5 v23).2) (lw_V q1087 q736 q737 q128 q738) hy_J2_get rfl rfl (Nat.le_of_ble_eq_true rfl) (Nat.le_of_ble_eq_true rfl) (Nat.le_of_ble_eq_true rfl) (kkR (fun r27 m27 E27 hw => ?_))
      have hw := hw E27
      obtain ⟨v30, hw⟩ := hw
      refine x_castS HE dX21_goes_30 xc14 q1088 (Lay_X17.tag v30) ?_
      refine x_gI HE dX21_goes_33 fd_X17_3 q986 (Or.inl rfl) (Lay_X17.tag v30) rfl ?_
      refine x_aload_n HE 0 dX21_goes_36 rfl rfl ?_
      refine x_gI HE dX21_goes_37 fd_X21_24 q1171 (Or.inl rfl) (Lay_X21.tag (f0.ext (EB.tr E27))) rfl ?_
      refine x_ic_ne HE 50 dX21_goes_40 (by decide) (fun c40 => ?_) (fun c40 => ?_)
      · have hw := hw.1 c40
        exact w_X21_goes_50 HE hr f0 hK2 hw
      · have hw := hw.2 c40
        refine x_aload_n HE 0 dX21_goes_43 rfl rfl ?_
        refine x_gR HE dX21_goes_44 fd_X21_2 q1124 (Or.inl rfl) (Lay_X21.tag (f0.ext (EB.tr E27))) (Lay_X21_2 (f0.ext (EB.tr E27))).1 ?_
        refine x_iload_n HE 1 dX21_goes_47 rfl rfl ?_
        refine x_iconst HE dX21_goes_48 (by decide) ?_
        obtain ⟨i49, hw⟩ := hw
        refine x_iast HE dX21_goes_49 ((Lay_X21_2 (f0.ext (EB.tr E27))).2.1) (ix_of ((Lay_X21_2 (f0.ext (EB.tr E27))).2.2) i49) (fun m49 em49 E49 => ?_)
        have hw := hw m49 em49
        exact w_X21_goes_50 HE hr f0 hK2 hw
theorem wl_X21_goes_2 {G : GT} {X : ET} {h0 : Hp} {x0 : Int} (HE : XE G X cX21_goes 2 RX21 7 157 h0) (hr : XR X none) (f0 : Lay_X21 h0 x0) {Q : Hp → Prop} {l1 : Int} {h : Hp} (hw : Lp1 (g_X21_goes_L2 x0 Q) l1 h) : Wx G X h0 (QV Q) h 2 [some (rV x0), some (iV l1)] [] := by
  obtain ⟨n, hw⟩ := hw
  induction n generalizing l1 h with
  | zero => exact hw.elim
  | succ n ih => exact w_X21_goes_2 HE hr f0 (fun _ _ hk => ih hk) hw
def g_X21_goes (x0 : Int) (Q : Hp → Prop) (h : Hp) : Prop :=
  Lp1 (g_X21_goes_L2 x0 Q) 0 h
theorem w_X21_goes_0 {G : GT} {X : ET} {h0 : Hp} {x0 : Int} (HE : XE G X cX21_goes 2 RX21 7 157 h0) (hr : XR X none) (f0 : Lay_X21 h0 x0) {Q : Hp → Prop} {h : Hp} (hw : g_X21_goes x0 Q h) : Wx G X h0 (QV Q) h 0 [some (rV x0), none] [] := by
  refine Wx.start (fun EB => ?_)
  unfold g_X21_goes at hw
  refine x_iconst HE dX21_goes_0 (by decide) ?_
  refine x_istore_n HE 1 (lo' := [some (rV x0), some (iV 0)]) dX21_goes_1 rfl (Nat.le_of_ble_eq_true rfl) rfl ?_
  exact wl_X21_goes_2 HE hr f0 hw
theorem k_X21_goes {G : GT} {x0 : Int} {Q : Hp → Prop} {h : Hp} (f0 : Lay_X21 h x0) (l : Launch) (hw : g_X21_goes x0 Q h) : XM G l yX21_goes cX21_goes 2 none 7 157 [rV x0] (QV Q) h :=
  XM.of (by decide) (Nat.le_of_ble_eq_true rfl) (fun X HE hr hn => w_X21_goes_0 HE hr f0 hw)
def g_X21_evening_b18 (x0 : Int) (Q : Int → Hp → Prop) (h : Hp) : Prop :=
  Q x0 h
theorem w_X21_evening_18 {G : GT} {X : ET} {h0 : Hp} {x0 : Int} (HE : XE G X cX21_evening 1 RX21 8 178 h0) (hr : XR X (some (.object "NextAtBar$Ba\x72"))) (f0 : Lay_X21 h0 x0) {Q : Int → Hp → Prop} {h : Hp} (hw : g_X21_evening_b18 x0 Q  h) : Wx G X h0 (QR Q) h 18 [some (rV x0)] [] := by
  refine Wx.start (fun EB => ?_)
  unfold g_X21_evening_b18 at hw
  refine x_aload_n HE 0 dX21_evening_18 rfl rfl ?_
  exact x_aret HE hr (Or.inl ⟨_, rfl⟩) dX21_evening_19 hw
def g_X21_evening_L0 (x0 : Int) (Q : Int → Hp → Prop) (K0 : Hp → Prop) (h : Hp) : Prop :=
  (((hF h x0 26) < (hF h x0 24)) → (g_X21_evening_b18 x0 Q h)) ∧ (((hF h x0 24) ≤ (hF h x0 26)) → (g_X21_goes x0 (fun m12 => Ext h m12 → (K0 m12)) h))
theorem w_X21_evening_0 {G : GT} {X : ET} {h0 : Hp} {x0 : Int} (HE : XE G X cX21_evening 1 RX21 8 178 h0) (hr : XR X (some (.object "NextAtBar$Ba\x72"))) (f0 : Lay_X21 h0 x0) {Q : Int → Hp → Prop} {K0 : Hp → Prop} (hK0 : ∀ (h : Hp), K0  h → Wx G X h0 (QR Q) h 0 [some (rV x0)] []) {h : Hp} (hw : g_X21_evening_L0 x0 Q K0  h) : Wx G X h0 (QR Q) h 0 [some (rV x0)] [] := by
  refine Wx.start (fun EB => ?_)
  unfold g_X21_evening_L0 at hw
  refine x_aload_n HE 0 dX21_evening_0 rfl rfl ?_
  refine x_gI HE dX21_evening_1 fd_X21_24 q1171 (Or.inl rfl) (Lay_X21.tag (f0.ext EB)) rfl ?_
  refine x_aload_n HE 0 dX21_evening_4 rfl rfl ?_
  refine x_gI HE dX21_evening_5 fd_X21_26 q1175 (Or.inl rfl) (Lay_X21.tag (f0.ext EB)) rfl ?_
  refine x_ic_gt HE 18 dX21_evening_8 (by decide) (fun c8 => ?_) (fun c8 => ?_)
  · have hw := hw.1 c8
    exact w_X21_evening_18 HE hr f0 hw
  · have hw := hw.2 c8
    refine x_aload_n HE 0 dX21_evening_11 rfl rfl ?_
    refine x_callV HE dX21_evening_12 rfl (fun l => k_X21_goes (f0.ext EB) l hw) (As := []) (rest := []) rfl xc13 (Lay_X21.tag (f0.ext EB)) (lw_V q1394 q1395 q1396 q157 q1397) hy_X21_goes rfl rfl (Nat.le_of_ble_eq_true rfl) (Nat.le_of_ble_eq_true rfl) (Nat.le_of_ble_eq_true rfl) (kkV (fun m12 E12 hw => ?_))
    have hw := hw E12
    refine x_goto HE 0 dX21_evening_15 (by decide) ?_
    exact hK0 _ hw
theorem wl_X21_evening_0 {G : GT} {X : ET} {h0 : Hp} {x0 : Int} (HE : XE G X cX21_evening 1 RX21 8 178 h0) (hr : XR X (some (.object "NextAtBar$Ba\x72"))) (f0 : Lay_X21 h0 x0) {Q : Int → Hp → Prop} {h : Hp} (hw : Lp0 (g_X21_evening_L0 x0 Q)  h) : Wx G X h0 (QR Q) h 0 [some (rV x0)] [] := by
  obtain ⟨n, hw⟩ := hw
  induction n generalizing  h with
  | zero => exact hw.elim
  | succ n ih => exact w_X21_evening_0 HE hr f0 (fun _ hk => ih hk) hw
def g_X21_evening (x0 : Int) (Q : Int → Hp → Prop) (h : Hp) : Prop := Lp0 (g_X21_evening_L0 x0 Q)  h
theorem k_X21_evening {G : GT} {x0 : Int} {Q : Int → Hp → Prop} {h : Hp} (f0 : Lay_X21 h x0) (l : Launch) (hw : g_X21_evening x0 Q h) : XM G l yX21_evening cX21_evening 1 (some (.object "NextAtBar$Ba\x72")) 8 178 [rV x0] (QR Q) h :=
  XM.of (by decide) (Nat.le_of_ble_eq_true rfl) (fun X HE hr hn => wl_X21_evening_0 HE hr f0 hw)
def g_X21_fate_b63 (x0 x1 : Int) (Q : Int → Hp → Prop) (s0 : Int) (h : Hp) : Prop :=
  Q s0 h
theorem w_X21_fate_63 {G : GT} {X : ET} {h0 : Hp} {x0 x1 : Int} (HE : XE G X cX21_fate 2 RX21 0 0 h0) (hr : XR X (some .int)) (f0 : Lay_X21 h0 x0) {Q : Int → Hp → Prop} {s0 : Int} {h : Hp} (hw : g_X21_fate_b63 x0 x1 Q s0 h) : Wx G X h0 (QI Q) h 63 [some (rV x0), some (iV x1)] [iV s0] := by
  refine Wx.start (fun EB => ?_)
  unfold g_X21_fate_b63 at hw
  exact x_iret HE hr dX21_fate_63 hw
def g_X21_fate (x0 x1 : Int) (Q : Int → Hp → Prop) (h : Hp) : Prop :=
  ((0 : Int) ≤ x1 ∧ x1 < 10) ∧ ((((hA h (x0 + 1) x1) ≠ 5) → (((0 : Int) ≤ x1 ∧ x1 < 10) ∧ ((((hA h (x0 + 1) x1) ≠ 4) → (((0 : Int) ≤ x1 ∧ x1 < 10) ∧ ((((hA h (x0 + 1) x1) ≠ 1) → (((0 : Int) ≤ x1 ∧ x1 < 10) ∧ ((((hA h (x0 + 1) x1) ≠ 0) → (((0 : Int) ≤ x1 ∧ x1 < 10) ∧ ((((hA h (x0 + 7) x1) ≠ (-2)) → (g_X21_fate_b63 x0 x1 Q 0 h)) ∧ (((hA h (x0 + 7) x1) = (-2)) → (g_X21_fate_b63 x0 x1 Q 1 h))))) ∧ (((hA h (x0 + 1) x1) = 0) → (Q 5 h))))) ∧ (((hA h (x0 + 1) x1) = 1) → (Q 3 h))))) ∧ (((hA h (x0 + 1) x1) = 4) → (Q 2 h))))) ∧ (((hA h (x0 + 1) x1) = 5) → (Q 4 h)))
theorem w_X21_fate_0 {G : GT} {X : ET} {h0 : Hp} {x0 x1 : Int} (HE : XE G X cX21_fate 2 RX21 0 0 h0) (hr : XR X (some .int)) (f0 : Lay_X21 h0 x0) {Q : Int → Hp → Prop} {h : Hp} (hw : g_X21_fate x0 x1 Q h) : Wx G X h0 (QI Q) h 0 [some (rV x0), some (iV x1)] [] := by
  refine Wx.start (fun EB => ?_)
  unfold g_X21_fate at hw
  refine x_aload_n HE 0 dX21_fate_0 rfl rfl ?_
  refine x_gR HE dX21_fate_1 fd_X21_2 q1124 (Or.inl rfl) (Lay_X21.tag (f0.ext EB)) (Lay_X21_2 (f0.ext EB)).1 ?_
  refine x_iload_n HE 1 dX21_fate_4 rfl rfl ?_
  obtain ⟨i5, hw⟩ := hw
  refine x_iald HE dX21_fate_5 (t := 1) (by decide) ((Lay_X21_2 (f0.ext EB)).2.1) (ix_of ((Lay_X21_2 (f0.ext EB)).2.2) i5) rfl ?_
  refine x_iconst HE dX21_fate_6 (by decide) ?_
  refine x_ic_ne HE 12 dX21_fate_7 (by decide) (fun c7 => ?_) (fun c7 => ?_)
  · have hw := hw.1 c7
    refine x_aload_n HE 0 dX21_fate_12 rfl rfl ?_
    refine x_gR HE dX21_fate_13 fd_X21_2 q1124 (Or.inl rfl) (Lay_X21.tag (f0.ext EB)) (Lay_X21_2 (f0.ext EB)).1 ?_
    refine x_iload_n HE 1 dX21_fate_16 rfl rfl ?_
    obtain ⟨i17, hw⟩ := hw
    refine x_iald HE dX21_fate_17 (t := 1) (by decide) ((Lay_X21_2 (f0.ext EB)).2.1) (ix_of ((Lay_X21_2 (f0.ext EB)).2.2) i17) rfl ?_
    refine x_iconst HE dX21_fate_18 (by decide) ?_
    refine x_ic_ne HE 24 dX21_fate_19 (by decide) (fun c19 => ?_) (fun c19 => ?_)
    · have hw := hw.1 c19
      refine x_aload_n HE 0 dX21_fate_24 rfl rfl ?_
      refine x_gR HE dX21_fate_25 fd_X21_2 q1124 (Or.inl rfl) (Lay_X21.tag (f0.ext EB)) (Lay_X21_2 (f0.ext EB)).1 ?_
      refine x_iload_n HE 1 dX21_fate_28 rfl rfl ?_
      obtain ⟨i29, hw⟩ := hw
      refine x_iald HE dX21_fate_29 (t := 1) (by decide) ((Lay_X21_2 (f0.ext EB)).2.1) (ix_of ((Lay_X21_2 (f0.ext EB)).2.2) i29) rfl ?_
      refine x_iconst HE dX21_fate_30 (by decide) ?_
      refine x_ic_ne HE 36 dX21_fate_31 (by decide) (fun c31 => ?_) (fun c31 => ?_)
      · have hw := hw.1 c31
        refine x_aload_n HE 0 dX21_fate_36 rfl rfl ?_
        refine x_gR HE dX21_fate_37 fd_X21_2 q1124 (Or.inl rfl) (Lay_X21.tag (f0.ext EB)) (Lay_X21_2 (f0.ext EB)).1 ?_
        refine x_iload_n HE 1 dX21_fate_40 rfl rfl ?_
        obtain ⟨i41, hw⟩ := hw
        refine x_iald HE dX21_fate_41 (t := 1) (by decide) ((Lay_X21_2 (f0.ext EB)).2.1) (ix_of ((Lay_X21_2 (f0.ext EB)).2.2) i41) rfl ?_
        refine x_if_ne HE 47 dX21_fate_42 (by decide) (fun c42 => ?_) (fun c42 => ?_)
        · have hw := hw.1 c42
          refine x_aload_n HE 0 dX21_fate_47 rfl rfl ?_
          refine x_gR HE dX21_fate_48 fd_X21_8 q1140 (Or.inl rfl) (Lay_X21.tag (f0.ext EB)) (Lay_X21_8 (f0.ext EB)).1 ?_
          refine x_iload_n HE 1 dX21_fate_51 rfl rfl ?_
          obtain ⟨i52, hw⟩ := hw
          refine x_iald HE dX21_fate_52 (t := 1) (by decide) ((Lay_X21_8 (f0.ext EB)).2.1) (ix_of ((Lay_X21_8 (f0.ext EB)).2.2) i52) rfl ?_
          refine x_bipush HE dX21_fate_53 (by decide) ?_
          refine x_ic_ne HE 62 dX21_fate_55 (by decide) (fun c55 => ?_) (fun c55 => ?_)
          · have hw := hw.1 c55
            refine x_iconst HE dX21_fate_62 (by decide) ?_
            exact w_X21_fate_63 HE hr f0 hw
          · have hw := hw.2 c55
            refine x_iconst HE dX21_fate_58 (by decide) ?_
            refine x_goto HE 63 dX21_fate_59 (by decide) ?_
            exact w_X21_fate_63 HE hr f0 hw
        · have hw := hw.2 c42
          refine x_iconst HE dX21_fate_45 (by decide) ?_
          exact x_iret HE hr dX21_fate_46 hw
      · have hw := hw.2 c31
        refine x_iconst HE dX21_fate_34 (by decide) ?_
        exact x_iret HE hr dX21_fate_35 hw
    · have hw := hw.2 c19
      refine x_iconst HE dX21_fate_22 (by decide) ?_
      exact x_iret HE hr dX21_fate_23 hw
  · have hw := hw.2 c7
    refine x_iconst HE dX21_fate_10 (by decide) ?_
    exact x_iret HE hr dX21_fate_11 hw
theorem k_X21_fate {G : GT} {x0 x1 : Int} {Q : Int → Hp → Prop} {h : Hp} (f0 : Lay_X21 h x0) (l : Launch) (hw : g_X21_fate x0 x1 Q h) : XM G l yX21_fate cX21_fate 2 (some .int) 0 0 [rV x0, iV x1] (QI Q) h :=
  XM.of (by decide) (Nat.le_of_ble_eq_true rfl) (fun X HE hr hn => w_X21_fate_0 HE hr f0 hw)
def g_X21_waits_b69 (x0 x1 : Int) (Q : Int → Hp → Prop) (s0 : Int) (h : Hp) : Prop :=
  Q s0 h
theorem w_X21_waits_69 {G : GT} {X : ET} {h0 : Hp} {x0 x1 : Int} (HE : XE G X cX21_waits 2 RX21 3 64 h0) (hr : XR X (some .int)) (f0 : Lay_X21 h0 x0) {Q : Int → Hp → Prop} {s0 : Int} {h : Hp} (hw : g_X21_waits_b69 x0 x1 Q s0 h) : Wx G X h0 (QI Q) h 69 [some (rV x0), some (iV x1)] [iV s0] := by
  refine Wx.start (fun EB => ?_)
  unfold g_X21_waits_b69 at hw
  exact x_iret HE hr dX21_waits_69 hw
def g_X21_waits (x0 x1 : Int) (Q : Int → Hp → Prop) (h : Hp) : Prop :=
  ((0 : Int) ≤ x1 ∧ x1 < 10) ∧ ((((hA h (x0 + 1) x1) ≠ 5) → (((0 : Int) ≤ x1 ∧ x1 < 10) ∧ ((((hA h (x0 + 1) x1) ≠ 1) → (((0 : Int) ≤ x1 ∧ x1 < 10) ∧ ((((hA h (x0 + 1) x1) ≠ 0) → (((0 : Int) ≤ x1 ∧ x1 < 10) ∧ (g_X21_waits_b69 x0 x1 Q (hA h (x0 + 9) x1) h))) ∧ (((hA h (x0 + 1) x1) = 0) → (g_X21_waits_b69 x0 x1 Q 0 h))))) ∧ (((hA h (x0 + 1) x1) = 1) → ((Lay_X7 h (hF h x0 0)) ∧ (g_J2_get ((hF h x0 0) + 3) x1 (fun r37 m37 => Ext h m37 → ((Lay_X17 m37 r37) ∧ ((i32 ((hF h x0 26) - (hF m37 r37 3))) ∧ (g_X21_waits_b69 x0 x1 Q ((hF h x0 26) - (hF m37 r37 3)) m37)))) h)))))) ∧ (((hA h (x0 + 1) x1) = 5) → (g_X21_waits_b69 x0 x1 Q (-2) h)))
theorem w_X21_waits_0 {G : GT} {X : ET} {h0 : Hp} {x0 x1 : Int} (HE : XE G X cX21_waits 2 RX21 3 64 h0) (hr : XR X (some .int)) (f0 : Lay_X21 h0 x0) {Q : Int → Hp → Prop} {h : Hp} (hw : g_X21_waits x0 x1 Q h) : Wx G X h0 (QI Q) h 0 [some (rV x0), some (iV x1)] [] := by
  refine Wx.start (fun EB => ?_)
  unfold g_X21_waits at hw
  refine x_aload_n HE 0 dX21_waits_0 rfl rfl ?_
  refine x_gR HE dX21_waits_1 fd_X21_2 q1124 (Or.inl rfl) (Lay_X21.tag (f0.ext EB)) (Lay_X21_2 (f0.ext EB)).1 ?_
  refine x_iload_n HE 1 dX21_waits_4 rfl rfl ?_
  obtain ⟨i5, hw⟩ := hw
  refine x_iald HE dX21_waits_5 (t := 1) (by decide) ((Lay_X21_2 (f0.ext EB)).2.1) (ix_of ((Lay_X21_2 (f0.ext EB)).2.2) i5) rfl ?_
  refine x_iconst HE dX21_waits_6 (by decide) ?_
  refine x_ic_ne HE 15 dX21_waits_7 (by decide) (fun c7 => ?_) (fun c7 => ?_)
  · have hw := hw.1 c7
    refine x_aload_n HE 0 dX21_waits_15 rfl rfl ?_
    refine x_gR HE dX21_waits_16 fd_X21_2 q1124 (Or.inl rfl) (Lay_X21.tag (f0.ext EB)) (Lay_X21_2 (f0.ext EB)).1 ?_
    refine x_iload_n HE 1 dX21_waits_19 rfl rfl ?_
    obtain ⟨i20, hw⟩ := hw
    refine x_iald HE dX21_waits_20 (t := 1) (by decide) ((Lay_X21_2 (f0.ext EB)).2.1) (ix_of ((Lay_X21_2 (f0.ext EB)).2.2) i20) rfl ?_
    refine x_iconst HE dX21_waits_21 (by decide) ?_
    refine x_ic_ne HE 50 dX21_waits_22 (by decide) (fun c22 => ?_) (fun c22 => ?_)
    · have hw := hw.1 c22
      refine x_aload_n HE 0 dX21_waits_50 rfl rfl ?_
      refine x_gR HE dX21_waits_51 fd_X21_2 q1124 (Or.inl rfl) (Lay_X21.tag (f0.ext EB)) (Lay_X21_2 (f0.ext EB)).1 ?_
      refine x_iload_n HE 1 dX21_waits_54 rfl rfl ?_
      obtain ⟨i55, hw⟩ := hw
      refine x_iald HE dX21_waits_55 (t := 1) (by decide) ((Lay_X21_2 (f0.ext EB)).2.1) (ix_of ((Lay_X21_2 (f0.ext EB)).2.2) i55) rfl ?_
      refine x_if_ne HE 63 dX21_waits_56 (by decide) (fun c56 => ?_) (fun c56 => ?_)
      · have hw := hw.1 c56
        refine x_aload_n HE 0 dX21_waits_63 rfl rfl ?_
        refine x_gR HE dX21_waits_64 fd_X21_10 q1144 (Or.inl rfl) (Lay_X21.tag (f0.ext EB)) (Lay_X21_10 (f0.ext EB)).1 ?_
        refine x_iload_n HE 1 dX21_waits_67 rfl rfl ?_
        obtain ⟨i68, hw⟩ := hw
        refine x_iald HE dX21_waits_68 (t := 1) (by decide) ((Lay_X21_10 (f0.ext EB)).2.1) (ix_of ((Lay_X21_10 (f0.ext EB)).2.2) i68) rfl ?_
        exact w_X21_waits_69 HE hr f0 hw
      · have hw := hw.2 c56
        refine x_iconst HE dX21_waits_59 (by decide) ?_
        refine x_goto HE 69 dX21_waits_60 (by decide) ?_
        exact w_X21_waits_69 HE hr f0 hw
    · have hw := hw.2 c22
      refine x_aload_n HE 0 dX21_waits_25 rfl rfl ?_
      refine x_gI HE dX21_waits_26 fd_X21_26 q1175 (Or.inl rfl) (Lay_X21.tag (f0.ext EB)) rfl ?_
      refine x_aload_n HE 0 dX21_waits_29 rfl rfl ?_
      refine x_gR HE dX21_waits_30 fd_X21_0 q1122 (Or.inl rfl) (Lay_X21.tag (f0.ext EB)) rfl ?_
      obtain ⟨v33, hw⟩ := hw
      refine x_gR HE dX21_waits_33 fd_X7_5 q328 (Or.inl rfl) (Lay_X7.tag v33) (Lay_X7_5 v33).1 ?_
      refine x_iload_n HE 1 dX21_waits_36 rfl rfl ?_
      refine x_callV HE dX21_waits_37 rfl (fun l => k_J2_get ((Lay_X7_5 v33).2) l hw) (As := [iV x1]) (rest := [iV (hF h x0 26)]) rfl xc32 ((Lay_X7_5 v33).2) (lw_V q1087 q736 q737 q128 q738) hy_J2_get rfl rfl (Nat.le_of_ble_eq_true rfl) (Nat.le_of_ble_eq_true rfl) (Nat.le_of_ble_eq_true rfl) (kkR (fun r37 m37 E37 hw => ?_))
      have hw := hw E37
      obtain ⟨v40, hw⟩ := hw
      refine x_castS HE dX21_waits_40 xc14 q1088 (Lay_X17.tag v40) ?_
      refine x_gI HE dX21_waits_43 fd_X17_3 q986 (Or.inl rfl) (Lay_X17.tag v40) rfl ?_
      obtain ⟨v46, hw⟩ := hw
      refine x_isub HE dX21_waits_46 v46 ?_
      refine x_goto HE 69 dX21_waits_47 (by decide) ?_
      exact w_X21_waits_69 HE hr f0 hw
  · have hw := hw.2 c7
    refine x_bipush HE dX21_waits_10 (by decide) ?_
    refine x_goto HE 69 dX21_waits_12 (by decide) ?_
    exact w_X21_waits_69 HE hr f0 hw
theorem k_X21_waits {G : GT} {x0 x1 : Int} {Q : Int → Hp → Prop} {h : Hp} (f0 : Lay_X21 h x0) (l : Launch) (hw : g_X21_waits x0 x1 Q h) : XM G l yX21_waits cX21_waits 2 (some .int) 3 64 [rV x0, iV x1] (QI Q) h :=
  XM.of (by decide) (Nat.le_of_ble_eq_true rfl) (fun X HE hr hn => w_X21_waits_0 HE hr f0 hw)
def g_X21_hasIt_b14 (x0 x1 : Int) (Q : Int → Hp → Prop) (s0 : Int) (h : Hp) : Prop :=
  (s0 = 0 ∨ s0 = 1) ∧ Q s0 h
theorem w_X21_hasIt_14 {G : GT} {X : ET} {h0 : Hp} {x0 x1 : Int} (HE : XE G X cX21_hasIt 2 RX21 1 21 h0) (hr : XR X (some .boolean)) (f0 : Lay_X21 h0 x0) {Q : Int → Hp → Prop} {s0 : Int} {h : Hp} (hw : g_X21_hasIt_b14 x0 x1 Q s0 h) : Wx G X h0 (QI Q) h 14 [some (rV x0), some (iV x1)] [iV s0] := by
  refine Wx.start (fun EB => ?_)
  unfold g_X21_hasIt_b14 at hw
  exact x_zret HE hr dX21_hasIt_14 hw.1 hw.2
def g_X21_hasIt (x0 x1 : Int) (Q : Int → Hp → Prop) (h : Hp) : Prop :=
  g_X21_fate x0 x1 (fun r2 m2 => Ext h m2 → (((2 ≤ r2) → (g_X21_hasIt_b14 x0 x1 Q 0 m2)) ∧ ((r2 < 2) → (g_X21_hasIt_b14 x0 x1 Q 1 m2)))) h
theorem w_X21_hasIt_0 {G : GT} {X : ET} {h0 : Hp} {x0 x1 : Int} (HE : XE G X cX21_hasIt 2 RX21 1 21 h0) (hr : XR X (some .boolean)) (f0 : Lay_X21 h0 x0) {Q : Int → Hp → Prop} {h : Hp} (hw : g_X21_hasIt x0 x1 Q h) : Wx G X h0 (QI Q) h 0 [some (rV x0), some (iV x1)] [] := by
  refine Wx.start (fun EB => ?_)
  unfold g_X21_hasIt at hw
  refine x_aload_n HE 0 dX21_hasIt_0 rfl rfl ?_
  refine x_iload_n HE 1 dX21_hasIt_1 rfl rfl ?_
  refine x_callV HE dX21_hasIt_2 rfl (fun l => k_X21_fate (f0.ext EB) l hw) (As := [iV x1]) (rest := []) rfl xc13 (Lay_X21.tag (f0.ext EB)) (lw_V q1457 q1418 q1419 q157 q1420) hy_X21_fate rfl rfl (Nat.le_of_ble_eq_true rfl) (Nat.le_of_ble_eq_true rfl) (Nat.le_of_ble_eq_true rfl) (kkI (fun r2 m2 E2 hw => ?_))
  have hw := hw E2
  refine x_iconst HE dX21_hasIt_5 (by decide) ?_
  refine x_ic_ge HE 13 dX21_hasIt_6 (by decide) (fun c6 => ?_) (fun c6 => ?_)
  · have hw := hw.1 c6
    refine x_iconst HE dX21_hasIt_13 (by decide) ?_
    exact w_X21_hasIt_14 HE hr f0 hw
  · have hw := hw.2 c6
    refine x_iconst HE dX21_hasIt_9 (by decide) ?_
    refine x_goto HE 14 dX21_hasIt_10 (by decide) ?_
    exact w_X21_hasIt_14 HE hr f0 hw
theorem k_X21_hasIt {G : GT} {x0 x1 : Int} {Q : Int → Hp → Prop} {h : Hp} (f0 : Lay_X21 h x0) (l : Launch) (hw : g_X21_hasIt x0 x1 Q h) : XM G l yX21_hasIt cX21_hasIt 2 (some .boolean) 1 21 [rV x0, iV x1] (QI Q) h :=
  XM.of (by decide) (Nat.le_of_ble_eq_true rfl) (fun X HE hr hn => w_X21_hasIt_0 HE hr f0 hw)
def g_X1_bits_b20 (x0 : Int) (Q : Int → Hp → Prop) (l1 : Int) (h : Hp) : Prop :=
  Q l1 h
theorem w_X1_bits_20 {G : GT} {X : ET} {h0 : Hp} {x0 : Int} (HE : XE G X cX1_bits 3 RX1 0 0 h0) (hr : XR X (some .int)) {Q : Int → Hp → Prop} {l1 : Int} {h : Hp} (hw : g_X1_bits_b20 x0 Q l1 h) : Wx G X h0 (QI Q) h 20 [some (iV x0), some (iV l1), none] [] := by
  refine Wx.start (fun EB => ?_)
  unfold g_X1_bits_b20 at hw
  refine x_iload_n HE 1 dX1_bits_20 rfl rfl ?_
  exact x_iret HE hr dX1_bits_21 hw
def g_X1_bits_L4 (x0 : Int) (Q : Int → Hp → Prop) (K4 : Int → Int → Hp → Prop) (l1 l2 : Int) (h : Hp) : Prop :=
  ((l2 = 0) → (g_X1_bits_b20 x0 Q l1 h)) ∧ ((l2 ≠ 0) → ((i32 (l1 + 1)) ∧ (∀ y8 : Int, y8 = l1 + 1 → ((i32 (l2 - 1)) ∧ (∀ y16 : Int, y16 = (bAnd l2 (l2 - 1)) → (K4 y8 y16 h))))))
theorem w_X1_bits_4 {G : GT} {X : ET} {h0 : Hp} {x0 : Int} (HE : XE G X cX1_bits 3 RX1 0 0 h0) (hr : XR X (some .int)) {Q : Int → Hp → Prop} {K4 : Int → Int → Hp → Prop} (hK4 : ∀ (l1 l2 : Int) (h : Hp), K4 l1 l2 h → Wx G X h0 (QI Q) h 4 [some (iV x0), some (iV l1), some (iV l2)] []) {l1 l2 : Int} {h : Hp} (hw : g_X1_bits_L4 x0 Q K4 l1 l2 h) : Wx G X h0 (QI Q) h 4 [some (iV x0), some (iV l1), some (iV l2)] [] := by
  refine Wx.start (fun EB => ?_)
  unfold g_X1_bits_L4 at hw
  refine x_iload_n HE 2 dX1_bits_4 rfl rfl ?_
  refine x_if_eq HE 20 dX1_bits_5 (by decide) (fun c5 => ?_) (fun c5 => ?_)
  · have hw := hw.1 c5
    refine Wx.mask [true, true, false] (lo2 := [some (iV x0), some (iV l1), none]) rfl ?_
    exact w_X1_bits_20 HE hr hw
  · have hw := hw.2 c5
    obtain ⟨v8, hw⟩ := hw
    refine x_iincN HE (fun y8 => [some (iV x0), some (iV y8), some (iV l2)]) dX1_bits_8 rfl v8 (Nat.le_of_ble_eq_true rfl) (fun _ => rfl) (fun y8 ey8 => ?_)
    have hw := hw y8 ey8
    refine x_iload_n HE 2 dX1_bits_11 rfl rfl ?_
    refine x_iload_n HE 2 dX1_bits_12 rfl rfl ?_
    refine x_iconst HE dX1_bits_13 (by decide) ?_
    obtain ⟨v14, hw⟩ := hw
    refine x_isub HE dX1_bits_14 v14 ?_
    refine x_iand HE dX1_bits_15 ?_
    refine x_istore_nN HE 2 (fun y16 => [some (iV x0), some (iV y8), some (iV y16)]) dX1_bits_16 rfl (Nat.le_of_ble_eq_true rfl) (fun _ => rfl) (fun y16 ey16 => ?_)
    have hw := hw y16 ey16
    refine x_goto HE 4 dX1_bits_17 (by decide) ?_
    exact hK4 _ _ _ hw
theorem wl_X1_bits_4 {G : GT} {X : ET} {h0 : Hp} {x0 : Int} (HE : XE G X cX1_bits 3 RX1 0 0 h0) (hr : XR X (some .int)) {Q : Int → Hp → Prop} {l1 l2 : Int} {h : Hp} (hw : Lp2 (g_X1_bits_L4 x0 Q) l1 l2 h) : Wx G X h0 (QI Q) h 4 [some (iV x0), some (iV l1), some (iV l2)] [] := by
  obtain ⟨n, hw⟩ := hw
  induction n generalizing l1 l2 h with
  | zero => exact hw.elim
  | succ n ih => exact w_X1_bits_4 HE hr (fun _ _ _ hk => ih hk) hw
def g_X1_bits (x0 : Int) (Q : Int → Hp → Prop) (h : Hp) : Prop :=
  Lp2 (g_X1_bits_L4 x0 Q) 0 x0 h
theorem w_X1_bits_0 {G : GT} {X : ET} {h0 : Hp} {x0 : Int} (HE : XE G X cX1_bits 3 RX1 0 0 h0) (hr : XR X (some .int)) {Q : Int → Hp → Prop} {h : Hp} (hw : g_X1_bits x0 Q h) : Wx G X h0 (QI Q) h 0 [some (iV x0), none, none] [] := by
  refine Wx.start (fun EB => ?_)
  unfold g_X1_bits at hw
  refine x_iconst HE dX1_bits_0 (by decide) ?_
  refine x_istore_n HE 1 (lo' := [some (iV x0), some (iV 0), none]) dX1_bits_1 rfl (Nat.le_of_ble_eq_true rfl) rfl ?_
  refine x_iload_n HE 0 dX1_bits_2 rfl rfl ?_
  refine x_istore_n HE 2 (lo' := [some (iV x0), some (iV 0), some (iV x0)]) dX1_bits_3 rfl (Nat.le_of_ble_eq_true rfl) rfl ?_
  exact wl_X1_bits_4 HE hr hw
theorem k_X1_bits {G : GT} {x0 : Int} {Q : Int → Hp → Prop} {h : Hp} (l : Launch) (hw : g_X1_bits x0 Q h) : XM G l yX1_bits cX1_bits 3 (some .int) 0 0 [iV x0] (QI Q) h :=
  XM.of (by decide) (Nat.le_of_ble_eq_true rfl) (fun X HE hr hn => w_X1_bits_0 HE hr  hw)
def g_X21_sum_b166 (x0 x1 : Int) (Q : Int → Hp → Prop) (l2 : Int) (h : Hp) : Prop :=
  Q l2 h
theorem w_X21_sum_166 {G : GT} {X : ET} {h0 : Hp} {x0 x1 : Int} (HE : XE G X cX21_sum 4 RX21 4 87 h0) (hr : XR X (some .int)) (f0 : Lay_X21 h0 x0) {Q : Int → Hp → Prop} {l2 : Int} {h : Hp} (hw : g_X21_sum_b166 x0 x1 Q l2 h) : Wx G X h0 (QI Q) h 166 [some (rV x0), some (iV x1), some (iV l2), none] [] := by
  refine Wx.start (fun EB => ?_)
  unfold g_X21_sum_b166 at hw
  refine x_iload_n HE 2 dX21_sum_166 rfl rfl ?_
  exact x_iret HE hr dX21_sum_167 hw
def g_X21_sum_b160 (x0 x1 : Int) (Q : Int → Hp → Prop) (K4 : Int → Int → Hp → Prop) (l2 l3 : Int) (h : Hp) : Prop :=
  (i32 (l3 + 1)) ∧ (∀ y160 : Int, y160 = l3 + 1 → (K4 l2 y160 h))
theorem w_X21_sum_160 {G : GT} {X : ET} {h0 : Hp} {x0 x1 : Int} (HE : XE G X cX21_sum 4 RX21 4 87 h0) (hr : XR X (some .int)) (f0 : Lay_X21 h0 x0) {Q : Int → Hp → Prop} {K4 : Int → Int → Hp → Prop} (hK4 : ∀ (l2 l3 : Int) (h : Hp), K4 l2 l3 h → Wx G X h0 (QI Q) h 4 [some (rV x0), some (iV x1), some (iV l2), some (iV l3)] []) {l2 l3 : Int} {h : Hp} (hw : g_X21_sum_b160 x0 x1 Q K4 l2 l3 h) : Wx G X h0 (QI Q) h 160 [some (rV x0), some (iV x1), some (iV l2), some (iV l3)] [] := by
  refine Wx.start (fun EB => ?_)
  unfold g_X21_sum_b160 at hw
  obtain ⟨v160, hw⟩ := hw
  refine x_iincN HE (fun y160 => [some (rV x0), some (iV x1), some (iV l2), some (iV y160)]) dX21_sum_160 rfl v160 (Nat.le_of_ble_eq_true rfl) (fun _ => rfl) (fun y160 ey160 => ?_)
  have hw := hw y160 ey160
  refine x_goto HE 4 dX21_sum_163 (by decide) ?_
  exact hK4 _ _ _ hw
def g_X21_sum_b158 (x0 x1 : Int) (Q : Int → Hp → Prop) (K4 : Int → Int → Hp → Prop) (l3 s0 s1 : Int) (h : Hp) : Prop :=
  (i32 (s0 + s1)) ∧ (∀ y159 : Int, y159 = (s0 + s1) → (g_X21_sum_b160 x0 x1 Q K4 y159 l3 h))
theorem w_X21_sum_158 {G : GT} {X : ET} {h0 : Hp} {x0 x1 : Int} (HE : XE G X cX21_sum 4 RX21 4 87 h0) (hr : XR X (some .int)) (f0 : Lay_X21 h0 x0) {Q : Int → Hp → Prop} {K4 : Int → Int → Hp → Prop} (hK4 : ∀ (l2 l3 : Int) (h : Hp), K4 l2 l3 h → Wx G X h0 (QI Q) h 4 [some (rV x0), some (iV x1), some (iV l2), some (iV l3)] []) {l3 s0 s1 : Int} {h : Hp} (hw : g_X21_sum_b158 x0 x1 Q K4 l3 s0 s1 h) : Wx G X h0 (QI Q) h 158 [some (rV x0), some (iV x1), none, some (iV l3)] [iV s1, iV s0] := by
  refine Wx.start (fun EB => ?_)
  unfold g_X21_sum_b158 at hw
  obtain ⟨v158, hw⟩ := hw
  refine x_iadd HE dX21_sum_158 v158 ?_
  refine x_istore_nN HE 2 (fun y159 => [some (rV x0), some (iV x1), some (iV y159), some (iV l3)]) dX21_sum_159 rfl (Nat.le_of_ble_eq_true rfl) (fun _ => rfl) (fun y159 ey159 => ?_)
  have hw := hw y159 ey159
  exact w_X21_sum_160 HE hr f0 hK4 hw
def g_X21_sum_b102 (x0 x1 : Int) (Q : Int → Hp → Prop) (K4 : Int → Int → Hp → Prop) (l3 s0 s1 : Int) (h : Hp) : Prop :=
  (i32 (s0 + s1)) ∧ (∀ y103 : Int, y103 = (s0 + s1) → (g_X21_sum_b160 x0 x1 Q K4 y103 l3 h))
theorem w_X21_sum_102 {G : GT} {X : ET} {h0 : Hp} {x0 x1 : Int} (HE : XE G X cX21_sum 4 RX21 4 87 h0) (hr : XR X (some .int)) (f0 : Lay_X21 h0 x0) {Q : Int → Hp → Prop} {K4 : Int → Int → Hp → Prop} (hK4 : ∀ (l2 l3 : Int) (h : Hp), K4 l2 l3 h → Wx G X h0 (QI Q) h 4 [some (rV x0), some (iV x1), some (iV l2), some (iV l3)] []) {l3 s0 s1 : Int} {h : Hp} (hw : g_X21_sum_b102 x0 x1 Q K4 l3 s0 s1 h) : Wx G X h0 (QI Q) h 102 [some (rV x0), some (iV x1), none, some (iV l3)] [iV s1, iV s0] := by
  refine Wx.start (fun EB => ?_)
  unfold g_X21_sum_b102 at hw
  obtain ⟨v102, hw⟩ := hw
  refine x_iadd HE dX21_sum_102 v102 ?_
  refine x_istore_nN HE 2 (fun y103 => [some (rV x0), some (iV x1), some (iV y103), some (iV l3)]) dX21_sum_103 rfl (Nat.le_of_ble_eq_true rfl) (fun _ => rfl) (fun y103 ey103 => ?_)
  have hw := hw y103 ey103
  refine x_goto HE 160 dX21_sum_104 (by decide) ?_
  exact w_X21_sum_160 HE hr f0 hK4 hw
def g_X21_sum_b82 (x0 x1 : Int) (Q : Int → Hp → Prop) (K4 : Int → Int → Hp → Prop) (l3 s0 s1 : Int) (h : Hp) : Prop :=
  (i32 (s0 + s1)) ∧ (∀ y83 : Int, y83 = (s0 + s1) → (g_X21_sum_b160 x0 x1 Q K4 y83 l3 h))
theorem w_X21_sum_82 {G : GT} {X : ET} {h0 : Hp} {x0 x1 : Int} (HE : XE G X cX21_sum 4 RX21 4 87 h0) (hr : XR X (some .int)) (f0 : Lay_X21 h0 x0) {Q : Int → Hp → Prop} {K4 : Int → Int → Hp → Prop} (hK4 : ∀ (l2 l3 : Int) (h : Hp), K4 l2 l3 h → Wx G X h0 (QI Q) h 4 [some (rV x0), some (iV x1), some (iV l2), some (iV l3)] []) {l3 s0 s1 : Int} {h : Hp} (hw : g_X21_sum_b82 x0 x1 Q K4 l3 s0 s1 h) : Wx G X h0 (QI Q) h 82 [some (rV x0), some (iV x1), none, some (iV l3)] [iV s1, iV s0] := by
  refine Wx.start (fun EB => ?_)
  unfold g_X21_sum_b82 at hw
  obtain ⟨v82, hw⟩ := hw
  refine x_iadd HE dX21_sum_82 v82 ?_
  refine x_istore_nN HE 2 (fun y83 => [some (rV x0), some (iV x1), some (iV y83), some (iV l3)]) dX21_sum_83 rfl (Nat.le_of_ble_eq_true rfl) (fun _ => rfl) (fun y83 ey83 => ?_)
  have hw := hw y83 ey83
  refine x_goto HE 160 dX21_sum_84 (by decide) ?_
  exact w_X21_sum_160 HE hr f0 hK4 hw
def g_X21_sum_b62 (x0 x1 : Int) (Q : Int → Hp → Prop) (K4 : Int → Int → Hp → Prop) (l3 s0 s1 : Int) (h : Hp) : Prop :=
  (i32 (s0 + s1)) ∧ (∀ y63 : Int, y63 = (s0 + s1) → (g_X21_sum_b160 x0 x1 Q K4 y63 l3 h))
theorem w_X21_sum_62 {G : GT} {X : ET} {h0 : Hp} {x0 x1 : Int} (HE : XE G X cX21_sum 4 RX21 4 87 h0) (hr : XR X (some .int)) (f0 : Lay_X21 h0 x0) {Q : Int → Hp → Prop} {K4 : Int → Int → Hp → Prop} (hK4 : ∀ (l2 l3 : Int) (h : Hp), K4 l2 l3 h → Wx G X h0 (QI Q) h 4 [some (rV x0), some (iV x1), some (iV l2), some (iV l3)] []) {l3 s0 s1 : Int} {h : Hp} (hw : g_X21_sum_b62 x0 x1 Q K4 l3 s0 s1 h) : Wx G X h0 (QI Q) h 62 [some (rV x0), some (iV x1), none, some (iV l3)] [iV s1, iV s0] := by
  refine Wx.start (fun EB => ?_)
  unfold g_X21_sum_b62 at hw
  obtain ⟨v62, hw⟩ := hw
  refine x_iadd HE dX21_sum_62 v62 ?_
  refine x_istore_nN HE 2 (fun y63 => [some (rV x0), some (iV x1), some (iV y63), some (iV l3)]) dX21_sum_63 rfl (Nat.le_of_ble_eq_true rfl) (fun _ => rfl) (fun y63 ey63 => ?_)
  have hw := hw y63 ey63
  refine x_goto HE 160 dX21_sum_64 (by decide) ?_
  exact w_X21_sum_160 HE hr f0 hK4 hw
def g_X21_sum_L4 (x0 x1 : Int) (Q : Int → Hp → Prop) (K4 : Int → Int → Hp → Prop) (l2 l3 : Int) (h : Hp) : Prop :=
  (((hF h x0 1) ≤ l3) → (g_X21_sum_b166 x0 x1 Q l2 h)) ∧ ((l3 < (hF h x0 1)) → (((x1 = 0) → (g_X21_hasIt x0 l3 (fun r51 m51 => Ext h m51 → (((r51 = 0) → (g_X21_sum_b62 x0 x1 Q K4 l3 l2 0 m51)) ∧ ((r51 ≠ 0) → (g_X21_sum_b62 x0 x1 Q K4 l3 l2 1 m51)))) h)) ∧ ((x1 = 1) → (g_X21_fate x0 l3 (fun r70 m70 => Ext h m70 → (((r70 ≠ 2) → (g_X21_sum_b82 x0 x1 Q K4 l3 l2 0 m70)) ∧ ((r70 = 2) → (g_X21_sum_b82 x0 x1 Q K4 l3 l2 1 m70)))) h)) ∧ ((x1 = 2) → (g_X21_fate x0 l3 (fun r90 m90 => Ext h m90 → (((r90 ≠ 3) → (g_X21_sum_b102 x0 x1 Q K4 l3 l2 0 m90)) ∧ ((r90 = 3) → (g_X21_sum_b102 x0 x1 Q K4 l3 l2 1 m90)))) h)) ∧ ((x1 = 3) → (g_X21_waits x0 l3 (fun r111 m111 => Ext h m111 → ((i32 (l2 + (if 0 < r111 then r111 else 0))) ∧ (∀ y118 : Int, y118 = (l2 + (if 0 < r111 then r111 else 0)) → (g_X21_sum_b160 x0 x1 Q K4 y118 l3 m111)))) h)) ∧ ((x1 = 4) → (((0 : Int) ≤ l3 ∧ l3 < 10) ∧ (g_X1_bits (hA h (x0 + 10) l3) (fun r129 m129 => Ext h m129 → ((i32 (l2 + r129)) ∧ (∀ y133 : Int, y133 = (l2 + r129) → (g_X21_sum_b160 x0 x1 Q K4 y133 l3 m129)))) h))) ∧ ((x1 ≠ 0 ∧ x1 ≠ 1 ∧ x1 ≠ 2 ∧ x1 ≠ 3 ∧ x1 ≠ 4) → (g_X21_hasIt x0 l3 (fun r140 m140 => Ext h m140 → (((r140 = 0) → (g_X21_sum_b158 x0 x1 Q K4 l3 l2 0 m140)) ∧ ((r140 ≠ 0) → ((Lay_X7 m140 (hF m140 x0 0)) ∧ (g_X7_costs (hF m140 x0 0) l3 (fun r151 m151 => Ext m140 m151 → (g_X21_sum_b158 x0 x1 Q K4 l3 l2 r151 m151)) m140))))) h))))
theorem w_X21_sum_4 {G : GT} {X : ET} {h0 : Hp} {x0 x1 : Int} (HE : XE G X cX21_sum 4 RX21 4 87 h0) (hr : XR X (some .int)) (f0 : Lay_X21 h0 x0) {Q : Int → Hp → Prop} {K4 : Int → Int → Hp → Prop} (hK4 : ∀ (l2 l3 : Int) (h : Hp), K4 l2 l3 h → Wx G X h0 (QI Q) h 4 [some (rV x0), some (iV x1), some (iV l2), some (iV l3)] []) {l2 l3 : Int} {h : Hp} (hw : g_X21_sum_L4 x0 x1 Q K4 l2 l3 h) : Wx G X h0 (QI Q) h 4 [some (rV x0), some (iV x1), some (iV l2), some (iV l3)] [] := by
  refine Wx.start (fun EB => ?_)
  unfold g_X21_sum_L4 at hw
  refine x_iload_n HE 3 dX21_sum_4 rfl rfl ?_
  refine x_aload_n HE 0 dX21_sum_5 rfl rfl ?_
  refine x_gI HE dX21_sum_6 fd_X21_1 q1123 (Or.inl rfl) (Lay_X21.tag (f0.ext EB)) rfl ?_
  refine x_ic_ge HE 166 dX21_sum_9 (by decide) (fun c9 => ?_) (fun c9 => ?_)
  · have hw := hw.1 c9
    refine Wx.mask [true, true, true, false] (lo2 := [some (rV x0), some (iV x1), some (iV l2), none]) rfl ?_
    exact w_X21_sum_166 HE hr f0 hw
  · have hw := hw.2 c9
    refine x_iload_n HE 1 dX21_sum_12 rfl rfl ?_
    by_cases s13_0 : x1 = 0
    · have hw := hw.1 s13_0
      refine x_tabIn HE 48 dX21_sum_13 0 s13_0 (by decide) rfl (by decide) ?_
      refine x_iload_n HE 2 dX21_sum_48 rfl rfl ?_
      refine x_aload_n HE 0 dX21_sum_49 rfl rfl ?_
      refine x_iload_n HE 3 dX21_sum_50 rfl rfl ?_
      refine x_callV HE dX21_sum_51 rfl (fun l => k_X21_hasIt (f0.ext EB) l hw) (As := [iV l3]) (rest := [iV l2]) rfl xc13 (Lay_X21.tag (f0.ext EB)) (lw_V q1453 q1454 q1455 q157 q1456) hy_X21_hasIt rfl rfl (Nat.le_of_ble_eq_true rfl) (Nat.le_of_ble_eq_true rfl) (Nat.le_of_ble_eq_true rfl) (kkI (fun r51 m51 E51 hw => ?_))
      have hw := hw E51
      refine x_if_eq HE 61 dX21_sum_54 (by decide) (fun c54 => ?_) (fun c54 => ?_)
      · have hw := hw.1 c54
        refine x_iconst HE dX21_sum_61 (by decide) ?_
        refine Wx.mask [true, true, false, true] (lo2 := [some (rV x0), some (iV x1), none, some (iV l3)]) rfl ?_
        exact w_X21_sum_62 HE hr f0 hK4 hw
      · have hw := hw.2 c54
        refine x_iconst HE dX21_sum_57 (by decide) ?_
        refine x_goto HE 62 dX21_sum_58 (by decide) ?_
        refine Wx.mask [true, true, false, true] (lo2 := [some (rV x0), some (iV x1), none, some (iV l3)]) rfl ?_
        exact w_X21_sum_62 HE hr f0 hK4 hw
    have hw := hw.2
    by_cases s13_1 : x1 = 1
    · have hw := hw.1 s13_1
      refine x_tabIn HE 67 dX21_sum_13 1 s13_1 (by decide) rfl (by decide) ?_
      refine x_iload_n HE 2 dX21_sum_67 rfl rfl ?_
      refine x_aload_n HE 0 dX21_sum_68 rfl rfl ?_
      refine x_iload_n HE 3 dX21_sum_69 rfl rfl ?_
      refine x_callV HE dX21_sum_70 rfl (fun l => k_X21_fate (f0.ext EB) l hw) (As := [iV l3]) (rest := [iV l2]) rfl xc13 (Lay_X21.tag (f0.ext EB)) (lw_V q1457 q1418 q1419 q157 q1420) hy_X21_fate rfl rfl (Nat.le_of_ble_eq_true rfl) (Nat.le_of_ble_eq_true rfl) (Nat.le_of_ble_eq_true rfl) (kkI (fun r70 m70 E70 hw => ?_))
      have hw := hw E70
      refine x_iconst HE dX21_sum_73 (by decide) ?_
      refine x_ic_ne HE 81 dX21_sum_74 (by decide) (fun c74 => ?_) (fun c74 => ?_)
      · have hw := hw.1 c74
        refine x_iconst HE dX21_sum_81 (by decide) ?_
        refine Wx.mask [true, true, false, true] (lo2 := [some (rV x0), some (iV x1), none, some (iV l3)]) rfl ?_
        exact w_X21_sum_82 HE hr f0 hK4 hw
      · have hw := hw.2 c74
        refine x_iconst HE dX21_sum_77 (by decide) ?_
        refine x_goto HE 82 dX21_sum_78 (by decide) ?_
        refine Wx.mask [true, true, false, true] (lo2 := [some (rV x0), some (iV x1), none, some (iV l3)]) rfl ?_
        exact w_X21_sum_82 HE hr f0 hK4 hw
    have hw := hw.2
    by_cases s13_2 : x1 = 2
    · have hw := hw.1 s13_2
      refine x_tabIn HE 87 dX21_sum_13 2 s13_2 (by decide) rfl (by decide) ?_
      refine x_iload_n HE 2 dX21_sum_87 rfl rfl ?_
      refine x_aload_n HE 0 dX21_sum_88 rfl rfl ?_
      refine x_iload_n HE 3 dX21_sum_89 rfl rfl ?_
      refine x_callV HE dX21_sum_90 rfl (fun l => k_X21_fate (f0.ext EB) l hw) (As := [iV l3]) (rest := [iV l2]) rfl xc13 (Lay_X21.tag (f0.ext EB)) (lw_V q1457 q1418 q1419 q157 q1420) hy_X21_fate rfl rfl (Nat.le_of_ble_eq_true rfl) (Nat.le_of_ble_eq_true rfl) (Nat.le_of_ble_eq_true rfl) (kkI (fun r90 m90 E90 hw => ?_))
      have hw := hw E90
      refine x_iconst HE dX21_sum_93 (by decide) ?_
      refine x_ic_ne HE 101 dX21_sum_94 (by decide) (fun c94 => ?_) (fun c94 => ?_)
      · have hw := hw.1 c94
        refine x_iconst HE dX21_sum_101 (by decide) ?_
        refine Wx.mask [true, true, false, true] (lo2 := [some (rV x0), some (iV x1), none, some (iV l3)]) rfl ?_
        exact w_X21_sum_102 HE hr f0 hK4 hw
      · have hw := hw.2 c94
        refine x_iconst HE dX21_sum_97 (by decide) ?_
        refine x_goto HE 102 dX21_sum_98 (by decide) ?_
        refine Wx.mask [true, true, false, true] (lo2 := [some (rV x0), some (iV x1), none, some (iV l3)]) rfl ?_
        exact w_X21_sum_102 HE hr f0 hK4 hw
    have hw := hw.2
    by_cases s13_3 : x1 = 3
    · have hw := hw.1 s13_3
      refine x_tabIn HE 107 dX21_sum_13 3 s13_3 (by decide) rfl (by decide) ?_
      refine x_iload_n HE 2 dX21_sum_107 rfl rfl ?_
      refine x_iconst HE dX21_sum_108 (by decide) ?_
      refine x_aload_n HE 0 dX21_sum_109 rfl rfl ?_
      refine x_iload_n HE 3 dX21_sum_110 rfl rfl ?_
      refine x_callV HE dX21_sum_111 rfl (fun l => k_X21_waits (f0.ext EB) l hw) (As := [iV l3]) (rest := [iV 0, iV l2]) rfl xc13 (Lay_X21.tag (f0.ext EB)) (lw_V q1458 q1426 q1427 q157 q1428) hy_X21_waits rfl rfl (Nat.le_of_ble_eq_true rfl) (Nat.le_of_ble_eq_true rfl) (Nat.le_of_ble_eq_true rfl) (kkI (fun r111 m111 E111 hw => ?_))
      have hw := hw E111
      refine x_mmax HE dX21_sum_114 rfl q1294 q434 q139 q435 (Nat.le_of_ble_eq_true rfl) (Nat.le_of_ble_eq_true rfl) (Nat.le_of_ble_eq_true rfl) ?_
      obtain ⟨v117, hw⟩ := hw
      refine x_iadd HE dX21_sum_117 v117 ?_
      refine x_istore_nN HE 2 (fun y118 => [some (rV x0), some (iV x1), some (iV y118), some (iV l3)]) dX21_sum_118 rfl (Nat.le_of_ble_eq_true rfl) (fun _ => rfl) (fun y118 ey118 => ?_)
      have hw := hw y118 ey118
      refine x_goto HE 160 dX21_sum_119 (by decide) ?_
      exact w_X21_sum_160 HE hr f0 hK4 hw
    have hw := hw.2
    by_cases s13_4 : x1 = 4
    · have hw := hw.1 s13_4
      refine x_tabIn HE 122 dX21_sum_13 4 s13_4 (by decide) rfl (by decide) ?_
      refine x_iload_n HE 2 dX21_sum_122 rfl rfl ?_
      refine x_aload_n HE 0 dX21_sum_123 rfl rfl ?_
      refine x_gR HE dX21_sum_124 fd_X21_11 q1145 (Or.inl rfl) (Lay_X21.tag (f0.ext EB)) (Lay_X21_11 (f0.ext EB)).1 ?_
      refine x_iload_n HE 3 dX21_sum_127 rfl rfl ?_
      obtain ⟨i128, hw⟩ := hw
      refine x_iald HE dX21_sum_128 (t := 1) (by decide) ((Lay_X21_11 (f0.ext EB)).2.1) (ix_of ((Lay_X21_11 (f0.ext EB)).2.2) i128) rfl ?_
      refine x_callSN HE dX21_sum_129 rfl (fun l => k_X1_bits  l hw) (As := [iV (hA h (x0 + 10) l3)]) (rest := [iV l2]) rfl (List.mem_of_getElem? (i := 22) rfl) q123 q1460 q1461 hy_X1_bits.2 rfl rfl (Nat.le_of_ble_eq_true rfl) (Nat.le_of_ble_eq_true rfl) (Nat.le_of_ble_eq_true rfl) (kkI (fun r129 m129 E129 hw => ?_))
      have hw := hw E129
      obtain ⟨v132, hw⟩ := hw
      refine x_iadd HE dX21_sum_132 v132 ?_
      refine x_istore_nN HE 2 (fun y133 => [some (rV x0), some (iV x1), some (iV y133), some (iV l3)]) dX21_sum_133 rfl (Nat.le_of_ble_eq_true rfl) (fun _ => rfl) (fun y133 ey133 => ?_)
      have hw := hw y133 ey133
      refine x_goto HE 160 dX21_sum_134 (by decide) ?_
      exact w_X21_sum_160 HE hr f0 hK4 hw
    have hw := hw.2
    have hw := hw ⟨s13_0, s13_1, s13_2, s13_3, s13_4⟩
    refine x_tabOut HE 137 dX21_sum_13 (tabE (tabS (b := 5) (tabS (b := 4) (tabS (b := 3) (tabS (b := 2) (tabS (b := 1) (Int.lt_or_le x1 0) (by decide) s13_0) (by decide) s13_1) (by decide) s13_2) (by decide) s13_3) (by decide) s13_4) (by decide)) (by decide) ?_
    refine x_iload_n HE 2 dX21_sum_137 rfl rfl ?_
    refine x_aload_n HE 0 dX21_sum_138 rfl rfl ?_
    refine x_iload_n HE 3 dX21_sum_139 rfl rfl ?_
    refine x_callV HE dX21_sum_140 rfl (fun l => k_X21_hasIt (f0.ext EB) l hw) (As := [iV l3]) (rest := [iV l2]) rfl xc13 (Lay_X21.tag (f0.ext EB)) (lw_V q1453 q1454 q1455 q157 q1456) hy_X21_hasIt rfl rfl (Nat.le_of_ble_eq_true rfl) (Nat.le_of_ble_eq_true rfl) (Nat.le_of_ble_eq_true rfl) (kkI (fun r140 m140 E140 hw => ?_))
    have hw := hw E140
    refine x_if_eq HE 157 dX21_sum_143 (by decide) (fun c143 => ?_) (fun c143 => ?_)
    · have hw := hw.1 c143
      refine x_iconst HE dX21_sum_157 (by decide) ?_
      refine Wx.mask [true, true, false, true] (lo2 := [some (rV x0), some (iV x1), none, some (iV l3)]) rfl ?_
      exact w_X21_sum_158 HE hr f0 hK4 hw
    · have hw := hw.2 c143
      refine x_aload_n HE 0 dX21_sum_146 rfl rfl ?_
      refine x_gR HE dX21_sum_147 fd_X21_0 q1122 (Or.inl rfl) (Lay_X21.tag (f0.ext (EB.tr E140))) rfl ?_
      refine x_iload_n HE 3 dX21_sum_150 rfl rfl ?_
      obtain ⟨u151_0, hw⟩ := hw
      refine x_callV HE dX21_sum_151 rfl (fun l => k_X7_costs u151_0 l hw) (As := [iV l3]) (rest := [iV l2]) rfl xc12 (Lay_X7.tag u151_0) (lw_V q1462 q1378 q1379 q132 q1380) hy_X7_costs rfl rfl (Nat.le_of_ble_eq_true rfl) (Nat.le_of_ble_eq_true rfl) (Nat.le_of_ble_eq_true rfl) (kkI (fun r151 m151 E151 hw => ?_))
      have hw := hw E151
      refine x_goto HE 158 dX21_sum_154 (by decide) ?_
      refine Wx.mask [true, true, false, true] (lo2 := [some (rV x0), some (iV x1), none, some (iV l3)]) rfl ?_
      exact w_X21_sum_158 HE hr f0 hK4 hw
theorem wl_X21_sum_4 {G : GT} {X : ET} {h0 : Hp} {x0 x1 : Int} (HE : XE G X cX21_sum 4 RX21 4 87 h0) (hr : XR X (some .int)) (f0 : Lay_X21 h0 x0) {Q : Int → Hp → Prop} {l2 l3 : Int} {h : Hp} (hw : Lp2 (g_X21_sum_L4 x0 x1 Q) l2 l3 h) : Wx G X h0 (QI Q) h 4 [some (rV x0), some (iV x1), some (iV l2), some (iV l3)] [] := by
  obtain ⟨n, hw⟩ := hw
  induction n generalizing l2 l3 h with
  | zero => exact hw.elim
  | succ n ih => exact w_X21_sum_4 HE hr f0 (fun _ _ _ hk => ih hk) hw
def g_X21_sum (x0 x1 : Int) (Q : Int → Hp → Prop) (h : Hp) : Prop :=
  Lp2 (g_X21_sum_L4 x0 x1 Q) 0 0 h
theorem w_X21_sum_0 {G : GT} {X : ET} {h0 : Hp} {x0 x1 : Int} (HE : XE G X cX21_sum 4 RX21 4 87 h0) (hr : XR X (some .int)) (f0 : Lay_X21 h0 x0) {Q : Int → Hp → Prop} {h : Hp} (hw : g_X21_sum x0 x1 Q h) : Wx G X h0 (QI Q) h 0 [some (rV x0), some (iV x1), none, none] [] := by
  refine Wx.start (fun EB => ?_)
  unfold g_X21_sum at hw
  refine x_iconst HE dX21_sum_0 (by decide) ?_
  refine x_istore_n HE 2 (lo' := [some (rV x0), some (iV x1), some (iV 0), none]) dX21_sum_1 rfl (Nat.le_of_ble_eq_true rfl) rfl ?_
  refine x_iconst HE dX21_sum_2 (by decide) ?_
  refine x_istore_n HE 3 (lo' := [some (rV x0), some (iV x1), some (iV 0), some (iV 0)]) dX21_sum_3 rfl (Nat.le_of_ble_eq_true rfl) rfl ?_
  exact wl_X21_sum_4 HE hr f0 hw
theorem k_X21_sum {G : GT} {x0 x1 : Int} {Q : Int → Hp → Prop} {h : Hp} (f0 : Lay_X21 h x0) (l : Launch) (hw : g_X21_sum x0 x1 Q h) : XM G l yX21_sum cX21_sum 4 (some .int) 4 87 [rV x0, iV x1] (QI Q) h :=
  XM.of (by decide) (Nat.le_of_ble_eq_true rfl) (fun X HE hr hn => w_X21_sum_0 HE hr f0 hw)
def g_X1_holds_b14 (x0 x1 : Int) (Q : Int → Hp → Prop) (s0 : Int) (h : Hp) : Prop :=
  (s0 = 0 ∨ s0 = 1) ∧ Q s0 h
theorem w_X1_holds_14 {G : GT} {X : ET} {h0 : Hp} {x0 x1 : Int} (HE : XE G X cX1_holds 2 RX1 0 0 h0) (hr : XR X (some .boolean)) {Q : Int → Hp → Prop} {s0 : Int} {h : Hp} (hw : g_X1_holds_b14 x0 x1 Q s0 h) : Wx G X h0 (QI Q) h 14 [some (iV x0), some (iV x1)] [iV s0] := by
  refine Wx.start (fun EB => ?_)
  unfold g_X1_holds_b14 at hw
  exact x_zret HE hr dX1_holds_14 hw.1 hw.2
def g_X1_holds (x0 x1 : Int) (Q : Int → Hp → Prop) (h : Hp) : Prop :=
  (((bAnd (bShr x0 x1) 1) ≠ 1) → (g_X1_holds_b14 x0 x1 Q 0 h)) ∧ (((bAnd (bShr x0 x1) 1) = 1) → (g_X1_holds_b14 x0 x1 Q 1 h))
theorem w_X1_holds_0 {G : GT} {X : ET} {h0 : Hp} {x0 x1 : Int} (HE : XE G X cX1_holds 2 RX1 0 0 h0) (hr : XR X (some .boolean)) {Q : Int → Hp → Prop} {h : Hp} (hw : g_X1_holds x0 x1 Q h) : Wx G X h0 (QI Q) h 0 [some (iV x0), some (iV x1)] [] := by
  refine Wx.start (fun EB => ?_)
  unfold g_X1_holds at hw
  refine x_iload_n HE 0 dX1_holds_0 rfl rfl ?_
  refine x_iload_n HE 1 dX1_holds_1 rfl rfl ?_
  refine x_ishr HE dX1_holds_2 ?_
  refine x_iconst HE dX1_holds_3 (by decide) ?_
  refine x_iand HE dX1_holds_4 ?_
  refine x_iconst HE dX1_holds_5 (by decide) ?_
  refine x_ic_ne HE 13 dX1_holds_6 (by decide) (fun c6 => ?_) (fun c6 => ?_)
  · have hw := hw.1 c6
    refine x_iconst HE dX1_holds_13 (by decide) ?_
    exact w_X1_holds_14 HE hr hw
  · have hw := hw.2 c6
    refine x_iconst HE dX1_holds_9 (by decide) ?_
    refine x_goto HE 14 dX1_holds_10 (by decide) ?_
    exact w_X1_holds_14 HE hr hw
theorem k_X1_holds {G : GT} {x0 x1 : Int} {Q : Int → Hp → Prop} {h : Hp} (l : Launch) (hw : g_X1_holds x0 x1 Q h) : XM G l yX1_holds cX1_holds 2 (some .boolean) 0 0 [iV x0, iV x1] (QI Q) h :=
  XM.of (by decide) (Nat.le_of_ble_eq_true rfl) (fun X HE hr hn => w_X1_holds_0 HE hr  hw)
def g_X22_goes_b133 (Rc : Int → Int → Int → Int → Int → Int → Int → (Hp → Prop) → Hp → Prop) (x0 x1 x2 x3 x4 x5 x6 : Int) (Q : Hp → Prop) (h : Hp) : Prop :=
  Q h
theorem w_X22_goes_133 {G : GT} {X : ET} {h0 : Hp} {frR lcR : Nat} (hf : 4 ≤ frR) (hl : 88 ≤ lcR) {x0 x1 x2 x3 x4 x5 x6 : Int} (HE : XE G X cX22_goes 9 RX22 (frR + 1) (lcR + 28) h0) (hr : XR X none) (f0 : Lay_X22 h0 x0) {Rc : Int → Int → Int → Int → Int → Int → Int → (Hp → Prop) → Hp → Prop} (hRc : ∀ (l : Launch) (z0 z1 z2 z3 z4 z5 z6 : Int) (Q : Hp → Prop) (h : Hp), Lay_X22 h z0 → Rc z0 z1 z2 z3 z4 z5 z6 Q h → XM G l yX22_goes cX22_goes 9 none frR lcR [rV z0, rV z1, iV z2, iV z3, iV z4, iV z5, iV z6] (QV Q) h) {Q : Hp → Prop} {h : Hp} (hw : g_X22_goes_b133 Rc x0 x1 x2 x3 x4 x5 x6 Q  h) : Wx G X h0 (QV Q) h 133 [some (rV x0), some (rV x1), some (iV x2), some (iV x3), some (iV x4), some (iV x5), some (iV x6), none, none] [] := by
  refine Wx.start (fun EB => ?_)
  unfold g_X22_goes_b133 at hw
  exact x_vret HE hr dX22_goes_133 hw
def g_X22_goes_b127 (Rc : Int → Int → Int → Int → Int → Int → Int → (Hp → Prop) → Hp → Prop) (x0 x1 x2 x3 x4 x5 x6 : Int) (Q : Hp → Prop) (K53 : Int → Hp → Prop) (l7 : Int) (h : Hp) : Prop :=
  (i32 (l7 + 1)) ∧ (∀ y127 : Int, y127 = l7 + 1 → (K53 y127 h))
theorem w_X22_goes_127 {G : GT} {X : ET} {h0 : Hp} {frR lcR : Nat} (hf : 4 ≤ frR) (hl : 88 ≤ lcR) {x0 x1 x2 x3 x4 x5 x6 : Int} (HE : XE G X cX22_goes 9 RX22 (frR + 1) (lcR + 28) h0) (hr : XR X none) (f0 : Lay_X22 h0 x0) {Rc : Int → Int → Int → Int → Int → Int → Int → (Hp → Prop) → Hp → Prop} (hRc : ∀ (l : Launch) (z0 z1 z2 z3 z4 z5 z6 : Int) (Q : Hp → Prop) (h : Hp), Lay_X22 h z0 → Rc z0 z1 z2 z3 z4 z5 z6 Q h → XM G l yX22_goes cX22_goes 9 none frR lcR [rV z0, rV z1, iV z2, iV z3, iV z4, iV z5, iV z6] (QV Q) h) {Q : Hp → Prop} {K53 : Int → Hp → Prop} (hK53 : ∀ (l7 : Int) (h : Hp), K53 l7 h → Wx G X h0 (QV Q) h 53 [some (rV x0), some (rV x1), some (iV x2), some (iV x3), some (iV x4), some (iV x5), some (iV x6), some (iV l7), none] []) {l7 : Int} {h : Hp} (hw : g_X22_goes_b127 Rc x0 x1 x2 x3 x4 x5 x6 Q K53 l7 h) : Wx G X h0 (QV Q) h 127 [some (rV x0), some (rV x1), some (iV x2), some (iV x3), some (iV x4), some (iV x5), some (iV x6), some (iV l7), none] [] := by
  refine Wx.start (fun EB => ?_)
  unfold g_X22_goes_b127 at hw
  obtain ⟨v127, hw⟩ := hw
  refine x_iincN HE (fun y127 => [some (rV x0), some (rV x1), some (iV x2), some (iV x3), some (iV x4), some (iV x5), some (iV x6), some (iV y127), none]) dX22_goes_127 rfl v127 (Nat.le_of_ble_eq_true rfl) (fun _ => rfl) (fun y127 ey127 => ?_)
  have hw := hw y127 ey127
  refine x_goto HE 53 dX22_goes_130 (by decide) ?_
  exact hK53 _ _ hw
def g_X22_goes_L53 (Rc : Int → Int → Int → Int → Int → Int → Int → (Hp → Prop) → Hp → Prop) (x0 x1 x2 x3 x4 x5 x6 : Int) (Q : Hp → Prop) (K53 : Int → Hp → Prop) (l7 : Int) (h : Hp) : Prop :=
  (((hF h x0 3) ≤ l7) → (g_X22_goes_b133 Rc x0 x1 x2 x3 x4 x5 x6 Q h)) ∧ ((l7 < (hF h x0 3)) → (g_X1_holds x3 l7 (fun r65 m65 => Ext h m65 → (((r65 = 0) → ((hT m65 x1 = 1) ∧ (((0 : Int) ≤ l7 ∧ l7 < hL m65 x1) ∧ (((0 : Int) ≤ x2 ∧ x2 < 7) ∧ (∀ m83 : Hp, m83 = setA m65 (x0 + 1) x2 (hA m65 x1 l7) → (((0 : Int) ≤ l7 ∧ l7 < hL m83 x1) ∧ ((Lay_X7 m83 (hF m83 x0 0)) ∧ (g_X7_time (hF m83 x0 0) (hA m83 x1 l7) x4 (fun r96 m96 => Ext m83 m96 → ((i32 (x5 + r96)) ∧ (∀ y100 : Int, y100 = (x5 + r96) → ((i32 (x2 + 1)) ∧ (((0 : Int) ≤ l7 ∧ l7 < hL m96 x1) ∧ ((i32 (x6 + y100)) ∧ (Rc x0 x1 (x2 + 1) (bOr x3 (bShl 1 l7)) (hA m96 x1 l7) y100 (x6 + y100) (fun m124 => Ext m96 m124 → (g_X22_goes_b127 Rc x0 x1 x2 x3 x4 x5 x6 Q K53 l7 m124)) m96))))))) m83)))))))) ∧ ((r65 ≠ 0) → (g_X22_goes_b127 Rc x0 x1 x2 x3 x4 x5 x6 Q K53 l7 m65)))) h))
theorem w_X22_goes_53 {G : GT} {X : ET} {h0 : Hp} {frR lcR : Nat} (hf : 4 ≤ frR) (hl : 88 ≤ lcR) {x0 x1 x2 x3 x4 x5 x6 : Int} (HE : XE G X cX22_goes 9 RX22 (frR + 1) (lcR + 28) h0) (hr : XR X none) (f0 : Lay_X22 h0 x0) {Rc : Int → Int → Int → Int → Int → Int → Int → (Hp → Prop) → Hp → Prop} (hRc : ∀ (l : Launch) (z0 z1 z2 z3 z4 z5 z6 : Int) (Q : Hp → Prop) (h : Hp), Lay_X22 h z0 → Rc z0 z1 z2 z3 z4 z5 z6 Q h → XM G l yX22_goes cX22_goes 9 none frR lcR [rV z0, rV z1, iV z2, iV z3, iV z4, iV z5, iV z6] (QV Q) h) {Q : Hp → Prop} {K53 : Int → Hp → Prop} (hK53 : ∀ (l7 : Int) (h : Hp), K53 l7 h → Wx G X h0 (QV Q) h 53 [some (rV x0), some (rV x1), some (iV x2), some (iV x3), some (iV x4), some (iV x5), some (iV x6), some (iV l7), none] []) {l7 : Int} {h : Hp} (hw : g_X22_goes_L53 Rc x0 x1 x2 x3 x4 x5 x6 Q K53 l7 h) : Wx G X h0 (QV Q) h 53 [some (rV x0), some (rV x1), some (iV x2), some (iV x3), some (iV x4), some (iV x5), some (iV x6), some (iV l7), none] [] := by
  refine Wx.start (fun EB => ?_)
  unfold g_X22_goes_L53 at hw
  refine x_iload HE dX22_goes_53 rfl ?_
  refine x_aload_n HE 0 dX22_goes_55 rfl rfl ?_
  refine x_gI HE dX22_goes_56 fd_X22_3 q1608 (Or.inl rfl) (Lay_X22.tag (f0.ext EB)) rfl ?_
  refine x_ic_ge HE 133 dX22_goes_59 (by decide) (fun c59 => ?_) (fun c59 => ?_)
  · have hw := hw.1 c59
    refine Wx.mask [true, true, true, true, true, true, true, false, true] (lo2 := [some (rV x0), some (rV x1), some (iV x2), some (iV x3), some (iV x4), some (iV x5), some (iV x6), none, none]) rfl ?_
    exact w_X22_goes_133 hf hl HE hr f0 hRc hw
  · have hw := hw.2 c59
    refine x_iload_n HE 3 dX22_goes_62 rfl rfl ?_
    refine x_iload HE dX22_goes_63 rfl ?_
    refine x_callSN HE dX22_goes_65 rfl (fun l => k_X1_holds  l hw) (As := [iV x3, iV l7]) (rest := []) rfl (List.mem_of_getElem? (i := 23) rfl) q123 q1570 q1571 hy_X1_holds.2 rfl rfl (Nat.le_of_ble_eq_true rfl) (by omega) (by omega) (kkI (fun r65 m65 E65 hw => ?_))
    have hw := hw E65
    refine x_if_eq HE 74 dX22_goes_68 (by decide) (fun c68 => ?_) (fun c68 => ?_)
    · have hw := hw.1 c68
      refine x_aload_n HE 0 dX22_goes_74 rfl rfl ?_
      refine x_gR HE dX22_goes_75 fd_X22_1 q1606 (Or.inl rfl) (Lay_X22.tag (f0.ext (EB.tr E65))) (Lay_X22_1 (f0.ext (EB.tr E65))).1 ?_
      refine x_iload_n HE 2 dX22_goes_78 rfl rfl ?_
      refine x_aload_n HE 1 dX22_goes_79 rfl rfl ?_
      refine x_iload HE dX22_goes_80 rfl ?_
      obtain ⟨v82, hw⟩ := hw
      obtain ⟨i82, hw⟩ := hw
      refine x_iald HE dX22_goes_82 (t := 1) (by decide) v82 i82 rfl ?_
      obtain ⟨i83, hw⟩ := hw
      refine x_iast HE dX22_goes_83 ((Lay_X22_1 (f0.ext (EB.tr E65))).2.1) (ix_of ((Lay_X22_1 (f0.ext (EB.tr E65))).2.2) i83) (fun m83 em83 E83 => ?_)
      have hw := hw m83 em83
      refine x_iload HE dX22_goes_84 rfl ?_
      refine x_aload_n HE 0 dX22_goes_86 rfl rfl ?_
      refine x_gR HE dX22_goes_87 fd_X22_0 q1605 (Or.inl rfl) (Lay_X22.tag (f0.ext (EB.tr (E65.tr E83)))) rfl ?_
      refine x_aload_n HE 1 dX22_goes_90 rfl rfl ?_
      refine x_iload HE dX22_goes_91 rfl ?_
      obtain ⟨i93, hw⟩ := hw
      refine x_iald HE dX22_goes_93 (t := 1) (by decide) (E83.tag v82 (by decide)) i93 rfl ?_
      refine x_iload HE dX22_goes_94 rfl ?_
      obtain ⟨u96_0, hw⟩ := hw
      refine x_callV HE dX22_goes_96 rfl (fun l => k_X7_time u96_0 l hw) (As := [iV (hA m83 x1 l7), iV x4]) (rest := [iV x5]) rfl xc12 (Lay_X7.tag u96_0) (lw_V q1604 q1366 q1367 q132 q1368) hy_X7_time rfl rfl (Nat.le_of_ble_eq_true rfl) (by omega) (by omega) (kkI (fun r96 m96 E96 hw => ?_))
      have hw := hw E96
      obtain ⟨v99, hw⟩ := hw
      refine x_iadd HE dX22_goes_99 v99 ?_
      refine x_istoreN HE (fun y100 => [some (rV x0), some (rV x1), some (iV x2), some (iV x3), some (iV x4), some (iV x5), some (iV x6), some (iV l7), some (iV y100)]) dX22_goes_100 (Nat.le_of_ble_eq_true rfl) (fun _ => rfl) (fun y100 ey100 => ?_)
      have hw := hw y100 ey100
      refine x_aload_n HE 0 dX22_goes_102 rfl rfl ?_
      refine x_aload_n HE 1 dX22_goes_103 rfl rfl ?_
      refine x_iload_n HE 2 dX22_goes_104 rfl rfl ?_
      refine x_iconst HE dX22_goes_105 (by decide) ?_
      obtain ⟨v106, hw⟩ := hw
      refine x_iadd HE dX22_goes_106 v106 ?_
      refine x_iload_n HE 3 dX22_goes_107 rfl rfl ?_
      refine x_iconst HE dX22_goes_108 (by decide) ?_
      refine x_iload HE dX22_goes_109 rfl ?_
      refine x_ishl HE dX22_goes_111 ?_
      refine x_ior HE dX22_goes_112 ?_
      refine x_aload_n HE 1 dX22_goes_113 rfl rfl ?_
      refine x_iload HE dX22_goes_114 rfl ?_
      obtain ⟨i116, hw⟩ := hw
      refine x_iald HE dX22_goes_116 (t := 1) (by decide) ((E83.tr E96).tag v82 (by decide)) i116 rfl ?_
      refine x_iload HE dX22_goes_117 rfl ?_
      refine x_iload HE dX22_goes_119 rfl ?_
      refine x_iload HE dX22_goes_121 rfl ?_
      obtain ⟨v123, hw⟩ := hw
      refine x_iadd HE dX22_goes_123 v123 ?_
      refine x_callV HE dX22_goes_124 rfl (fun l => hRc l _ _ _ _ _ _ _ _ _ (f0.ext (EB.tr (E65.tr (E83.tr E96)))) hw) (As := [rV x1, iV (x2 + 1), iV (bOr x3 (bShl 1 l7)), iV (hA m96 x1 l7), iV y100, iV (x6 + y100)]) (rest := []) rfl xc21 (Lay_X22.tag (f0.ext (EB.tr (E65.tr (E83.tr E96))))) (lw_V q1598 q1600 qs49 q158 q1601) hy_X22_goes rfl rfl (Nat.le_of_ble_eq_true rfl) (by omega) (by omega) (kkV (fun m124 E124 hw => ?_))
      have hw := hw E124
      refine Wx.mask [true, true, true, true, true, true, true, true, false] (lo2 := [some (rV x0), some (rV x1), some (iV x2), some (iV x3), some (iV x4), some (iV x5), some (iV x6), some (iV l7), none]) rfl ?_
      exact w_X22_goes_127 hf hl HE hr f0 hRc hK53 hw
    · have hw := hw.2 c68
      refine x_goto HE 127 dX22_goes_71 (by decide) ?_
      exact w_X22_goes_127 hf hl HE hr f0 hRc hK53 hw
theorem wl_X22_goes_53 {G : GT} {X : ET} {h0 : Hp} {frR lcR : Nat} (hf : 4 ≤ frR) (hl : 88 ≤ lcR) {x0 x1 x2 x3 x4 x5 x6 : Int} (HE : XE G X cX22_goes 9 RX22 (frR + 1) (lcR + 28) h0) (hr : XR X none) (f0 : Lay_X22 h0 x0) {Rc : Int → Int → Int → Int → Int → Int → Int → (Hp → Prop) → Hp → Prop} (hRc : ∀ (l : Launch) (z0 z1 z2 z3 z4 z5 z6 : Int) (Q : Hp → Prop) (h : Hp), Lay_X22 h z0 → Rc z0 z1 z2 z3 z4 z5 z6 Q h → XM G l yX22_goes cX22_goes 9 none frR lcR [rV z0, rV z1, iV z2, iV z3, iV z4, iV z5, iV z6] (QV Q) h) {Q : Hp → Prop} {l7 : Int} {h : Hp} (hw : Lp1 (g_X22_goes_L53 Rc x0 x1 x2 x3 x4 x5 x6 Q) l7 h) : Wx G X h0 (QV Q) h 53 [some (rV x0), some (rV x1), some (iV x2), some (iV x3), some (iV x4), some (iV x5), some (iV x6), some (iV l7), none] [] := by
  obtain ⟨n, hw⟩ := hw
  induction n generalizing l7 h with
  | zero => exact hw.elim
  | succ n ih => exact w_X22_goes_53 hf hl HE hr f0 hRc (fun _ _ hk => ih hk) hw
def g_X22_goes_b18 (Rc : Int → Int → Int → Int → Int → Int → Int → (Hp → Prop) → Hp → Prop) (x0 x1 x2 x3 x4 x5 x6 : Int) (Q : Hp → Prop) (h : Hp) : Prop :=
  ((x2 ≠ (hF h x0 3)) → (Lp1 (g_X22_goes_L53 Rc x0 x1 x2 x3 x4 x5 x6 Q) 0 h)) ∧ ((x2 = (hF h x0 3)) → (∀ m29 : Hp, m29 = setF h x0 4 x6 → (((0 : Int) ≤ 0 ∧ (0 : Int) ≤ 0 ∧ (0 : Int) ≤ (hF m29 x0 3)) ∧ (((0 : Int) + (hF m29 x0 3) ≤ 7) ∧ (((0 : Int) + (hF m29 x0 3) ≤ 7) ∧ (∀ m46 : Hp, m46 = putA m29 (x0 + 2) (cpyA (hA m29 (x0 + 1)) (hA m29 (x0 + 2)) 0 0 (hF m29 x0 3)) → (Q m46)))))))
theorem w_X22_goes_18 {G : GT} {X : ET} {h0 : Hp} {frR lcR : Nat} (hf : 4 ≤ frR) (hl : 88 ≤ lcR) {x0 x1 x2 x3 x4 x5 x6 : Int} (HE : XE G X cX22_goes 9 RX22 (frR + 1) (lcR + 28) h0) (hr : XR X none) (f0 : Lay_X22 h0 x0) {Rc : Int → Int → Int → Int → Int → Int → Int → (Hp → Prop) → Hp → Prop} (hRc : ∀ (l : Launch) (z0 z1 z2 z3 z4 z5 z6 : Int) (Q : Hp → Prop) (h : Hp), Lay_X22 h z0 → Rc z0 z1 z2 z3 z4 z5 z6 Q h → XM G l yX22_goes cX22_goes 9 none frR lcR [rV z0, rV z1, iV z2, iV z3, iV z4, iV z5, iV z6] (QV Q) h) {Q : Hp → Prop} {h : Hp} (hw : g_X22_goes_b18 Rc x0 x1 x2 x3 x4 x5 x6 Q  h) : Wx G X h0 (QV Q) h 18 [some (rV x0), some (rV x1), some (iV x2), some (iV x3), some (iV x4), some (iV x5), some (iV x6), none, none] [] := by
  refine Wx.start (fun EB => ?_)
  unfold g_X22_goes_b18 at hw
  refine x_iload_n HE 2 dX22_goes_18 rfl rfl ?_
  refine x_aload_n HE 0 dX22_goes_19 rfl rfl ?_
  refine x_gI HE dX22_goes_20 fd_X22_3 q1608 (Or.inl rfl) (Lay_X22.tag (f0.ext EB)) rfl ?_
  refine x_ic_ne HE 50 dX22_goes_23 (by decide) (fun c23 => ?_) (fun c23 => ?_)
  · have hw := hw.1 c23
    refine x_iconst HE dX22_goes_50 (by decide) ?_
    refine x_istore HE (lo' := [some (rV x0), some (rV x1), some (iV x2), some (iV x3), some (iV x4), some (iV x5), some (iV x6), some (iV 0), none]) dX22_goes_51 (Nat.le_of_ble_eq_true rfl) rfl ?_
    exact wl_X22_goes_53 hf hl HE hr f0 hRc hw
  · have hw := hw.2 c23
    refine x_aload_n HE 0 dX22_goes_26 rfl rfl ?_
    refine x_iload HE dX22_goes_27 rfl ?_
    refine x_pI HE dX22_goes_29 fd_X22_4 q1609 (Or.inl rfl) (Or.inl rfl) (nf_int _) (Lay_X22.tag (f0.ext EB)) (nro (by decide)) (Or.inl nf_X22_4) (fun m29 em29 E29 => ?_)
    have hw := hw m29 em29
    refine x_aload_n HE 0 dX22_goes_32 rfl rfl ?_
    refine x_gR HE dX22_goes_33 fd_X22_1 q1606 (Or.inl rfl) (Lay_X22.tag (f0.ext (EB.tr E29))) (Lay_X22_1 (f0.ext (EB.tr E29))).1 ?_
    refine x_iconst HE dX22_goes_36 (by decide) ?_
    refine x_aload_n HE 0 dX22_goes_37 rfl rfl ?_
    refine x_gR HE dX22_goes_38 fd_X22_2 q1607 (Or.inl rfl) (Lay_X22.tag (f0.ext (EB.tr E29))) (Lay_X22_2 (f0.ext (EB.tr E29))).1 ?_
    refine x_iconst HE dX22_goes_41 (by decide) ?_
    refine x_aload_n HE 0 dX22_goes_42 rfl rfl ?_
    refine x_gI HE dX22_goes_43 fd_X22_3 q1608 (Or.inl rfl) (Lay_X22.tag (f0.ext (EB.tr E29))) rfl ?_
    obtain ⟨p46, hw⟩ := hw
    obtain ⟨q46, hw⟩ := hw
    obtain ⟨r46, hw⟩ := hw
    refine x_cpy (t := 1) (ty := .int) HE dX22_goes_46 rfl q1602 q456 q455 q141 (by simp [xAr]) (by unfold roT; omega) ((Lay_X22_1 (f0.ext (EB.tr E29))).2.1) ((Lay_X22_2 (f0.ext (EB.tr E29))).2.1) p46 (by rw [(Lay_X22_1 (f0.ext (EB.tr E29))).2.2]; exact q46) (by rw [(Lay_X22_2 (f0.ext (EB.tr E29))).2.2]; exact r46) (fun i _ _ => ⟨rfl, (fun e => by cases e), by decide⟩) (Nat.le_of_ble_eq_true rfl) (by omega) (Nat.le_trans (m := 60) (by decide +kernel) (by omega)) (fun m46 em46 E46 => ?_)
    have hw := hw m46 em46
    exact x_vret HE hr dX22_goes_49 hw
def gs_X22_goes (Rc : Int → Int → Int → Int → Int → Int → Int → (Hp → Prop) → Hp → Prop) (x0 x1 x2 x3 x4 x5 x6 : Int) (Q : Hp → Prop) (h : Hp) : Prop :=
  (((hF h x0 4) = (-1)) → (g_X22_goes_b18 Rc x0 x1 x2 x3 x4 x5 x6 Q h)) ∧ (((hF h x0 4) ≠ (-1)) → (((x6 < (hF h x0 4)) → (g_X22_goes_b18 Rc x0 x1 x2 x3 x4 x5 x6 Q h)) ∧ (((hF h x0 4) ≤ x6) → (Q h))))
theorem w_X22_goes_0 {G : GT} {X : ET} {h0 : Hp} {frR lcR : Nat} (hf : 4 ≤ frR) (hl : 88 ≤ lcR) {x0 x1 x2 x3 x4 x5 x6 : Int} (HE : XE G X cX22_goes 9 RX22 (frR + 1) (lcR + 28) h0) (hr : XR X none) (f0 : Lay_X22 h0 x0) {Rc : Int → Int → Int → Int → Int → Int → Int → (Hp → Prop) → Hp → Prop} (hRc : ∀ (l : Launch) (z0 z1 z2 z3 z4 z5 z6 : Int) (Q : Hp → Prop) (h : Hp), Lay_X22 h z0 → Rc z0 z1 z2 z3 z4 z5 z6 Q h → XM G l yX22_goes cX22_goes 9 none frR lcR [rV z0, rV z1, iV z2, iV z3, iV z4, iV z5, iV z6] (QV Q) h) {Q : Hp → Prop} {h : Hp} (hw : gs_X22_goes Rc x0 x1 x2 x3 x4 x5 x6 Q h) : Wx G X h0 (QV Q) h 0 [some (rV x0), some (rV x1), some (iV x2), some (iV x3), some (iV x4), some (iV x5), some (iV x6), none, none] [] := by
  refine Wx.start (fun EB => ?_)
  unfold gs_X22_goes at hw
  refine x_aload_n HE 0 dX22_goes_0 rfl rfl ?_
  refine x_gI HE dX22_goes_1 fd_X22_4 q1609 (Or.inl rfl) (Lay_X22.tag (f0.ext EB)) rfl ?_
  refine x_iconst HE dX22_goes_4 (by decide) ?_
  refine x_ic_eq HE 18 dX22_goes_5 (by decide) (fun c5 => ?_) (fun c5 => ?_)
  · have hw := hw.1 c5
    exact w_X22_goes_18 hf hl HE hr f0 hRc hw
  · have hw := hw.2 c5
    refine x_iload HE dX22_goes_8 rfl ?_
    refine x_aload_n HE 0 dX22_goes_10 rfl rfl ?_
    refine x_gI HE dX22_goes_11 fd_X22_4 q1609 (Or.inl rfl) (Lay_X22.tag (f0.ext EB)) rfl ?_
    refine x_ic_lt HE 18 dX22_goes_14 (by decide) (fun c14 => ?_) (fun c14 => ?_)
    · have hw := hw.1 c14
      exact w_X22_goes_18 hf hl HE hr f0 hRc hw
    · have hw := hw.2 c14
      exact x_vret HE hr dX22_goes_17 hw
def g_X22_goes : Nat → Int → Int → Int → Int → Int → Int → Int → (Hp → Prop) → Hp → Prop
  | 0 => fun _ _ _ _ _ _ _ _ _ => False
  | n + 1 => gs_X22_goes (g_X22_goes n)
theorem k_X22_goes {G : GT} (n : Nat) {x0 x1 x2 x3 x4 x5 x6 : Int} {Q : Hp → Prop} {h : Hp} (f0 : Lay_X22 h x0) (l : Launch) (hw : g_X22_goes n x0 x1 x2 x3 x4 x5 x6 Q h) : XM G l yX22_goes cX22_goes 9 none (4 + n) (88 + n * 28) [rV x0, rV x1, iV x2, iV x3, iV x4, iV x5, iV x6] (QV Q) h := by
  induction n generalizing l x0 x1 x2 x3 x4 x5 x6 Q h with
  | zero => exact hw.elim
  | succ n ih =>
    have e1 : 4 + (n + 1) = (4 + n) + 1 := by omega
    have e2 : 88 + (n + 1) * 28 = (88 + n * 28) + 28 := by omega
    rw [e1, e2]
    exact XM.of (by decide) (Nat.le_of_ble_eq_true rfl) (fun X HE hr hn => w_X22_goes_0 (frR := 4 + n) (lcR := 88 + n * 28) (by omega) (by omega) HE hr f0 (fun l _ _ _ _ _ _ _ Q h q0 hk => ih q0 l hk) hw)
def g_X22_init (x0 x1 x2 x3 x4 : Int) (Q : Hp → Prop) (h : Hp) : Prop :=
  (capOK h 7) ∧ (∀ (a7 : Int) (m7 : Hp), a7 = hN h → m7 = alloc h 1 7 7 → WFa h → ((hF m7 x0 1 = 0) ∧ (∀ m9 : Hp, m9 = setF m7 x0 1 a7 → ((capOK m9 7) ∧ (∀ (a15 : Int) (m15 : Hp), a15 = hN m9 → m15 = alloc m9 1 7 7 → WFa m9 → ((hF m15 x0 2 = 0) ∧ (∀ m17 : Hp, m17 = setF m15 x0 2 a15 → (∀ m22 : Hp, m22 = setF m17 x0 4 (-1) → ((hF m22 x0 0 = 0) ∧ (∀ m27 : Hp, m27 = setF m22 x0 0 x1 → (∀ m32 : Hp, m32 = setF m27 x0 3 x3 → ((Lay_X22 m32 x0) ∧ (g_X22_goes 9 x0 x2 0 0 x4 0 0 (fun m43 => Ext m32 m43 → (Q m43)) m32)))))))))))))
theorem w_X22_init_0 {G : GT} {X : ET} {h0 : Hp} {x0 x1 x2 x3 x4 : Int} (HE : XE G X cX22_init 5 RX22 14 368 h0) (hr : XR X none) (hn : XN X "<init>") (f0 : hT h0 x0 = 21) {Q : Hp → Prop} {h : Hp} (hw : g_X22_init x0 x1 x2 x3 x4 Q h) : Wx G X h0 (QV Q) h 0 [some (rV x0), some (rV x1), some (rV x2), some (iV x3), some (iV x4)] [] := by
  refine Wx.start (fun EB => ?_)
  unfold g_X22_init at hw
  refine x_aload_n HE 0 dX22_init_0 rfl rfl ?_
  refine Wx.wf (fun wf1 => ?_)
  refine x_objInit HE dX22_init_1 rfl q1597 q170 q171 (tag_pos wf1 (EB.tag f0 (by decide)) (by decide)) (Nat.le_of_ble_eq_true rfl) (Nat.le_of_ble_eq_true rfl) (Nat.le_of_ble_eq_true rfl) ?_
  refine x_aload_n HE 0 dX22_init_4 rfl rfl ?_
  refine x_bipush HE dX22_init_5 (by decide) ?_
  obtain ⟨v7, hw⟩ := hw
  refine x_newIN HE dX22_init_7 q1019 (by decide) v7 (fun a7 m7 ea7 em7 E7 w7 => ?_)
  have hw := hw a7 m7 ea7 em7 w7
  have t7 := alloc_tag ea7 em7
  have l7 := alloc_len ea7 em7
  obtain ⟨z9, hw⟩ := hw
  refine x_pR HE dX22_init_9 fd_X22_1 q1606 (Or.inl rfl) (Or.inr ⟨rfl, hn, rfl⟩) (nf_arr _ _) ((EB.tr E7).tag f0 (by decide)) (nro (by decide)) (Or.inr z9) (fun m9 em9 E9 => ?_)
  have hw := hw m9 em9
  refine x_aload_n HE 0 dX22_init_12 rfl rfl ?_
  refine x_bipush HE dX22_init_13 (by decide) ?_
  obtain ⟨v15, hw⟩ := hw
  refine x_newIN HE dX22_init_15 q1019 (by decide) v15 (fun a15 m15 ea15 em15 E15 w15 => ?_)
  have hw := hw a15 m15 ea15 em15 w15
  have t15 := alloc_tag ea15 em15
  have l15 := alloc_len ea15 em15
  obtain ⟨z17, hw⟩ := hw
  refine x_pR HE dX22_init_17 fd_X22_2 q1607 (Or.inl rfl) (Or.inr ⟨rfl, hn, rfl⟩) (nf_arr _ _) ((EB.tr (E7.tr (E9.tr E15))).tag f0 (by decide)) (nro (by decide)) (Or.inr z17) (fun m17 em17 E17 => ?_)
  have hw := hw m17 em17
  refine x_aload_n HE 0 dX22_init_20 rfl rfl ?_
  refine x_iconst HE dX22_init_21 (by decide) ?_
  refine x_pI HE dX22_init_22 fd_X22_4 q1609 (Or.inl rfl) (Or.inl rfl) (nf_int _) ((EB.tr (E7.tr (E9.tr (E15.tr E17)))).tag f0 (by decide)) (nro (by decide)) (Or.inl nf_X22_4) (fun m22 em22 E22 => ?_)
  have hw := hw m22 em22
  refine x_aload_n HE 0 dX22_init_25 rfl rfl ?_
  refine x_aload_n HE 1 dX22_init_26 rfl rfl ?_
  obtain ⟨z27, hw⟩ := hw
  refine x_pR HE dX22_init_27 fd_X22_0 q1605 (Or.inl rfl) (Or.inr ⟨rfl, hn, rfl⟩) (nf_obj _ _) ((EB.tr (E7.tr (E9.tr (E15.tr (E17.tr E22))))).tag f0 (by decide)) (nro (by decide)) (Or.inr z27) (fun m27 em27 E27 => ?_)
  have hw := hw m27 em27
  refine x_aload_n HE 0 dX22_init_30 rfl rfl ?_
  refine x_iload_n HE 3 dX22_init_31 rfl rfl ?_
  refine x_pI HE dX22_init_32 fd_X22_3 q1608 (Or.inl rfl) (Or.inr ⟨rfl, hn, rfl⟩) (nf_int _) ((EB.tr (E7.tr (E9.tr (E15.tr (E17.tr (E22.tr E27)))))).tag f0 (by decide)) (nro (by decide)) (Or.inl nf_X22_3) (fun m32 em32 E32 => ?_)
  have hw := hw m32 em32
  refine x_aload_n HE 0 dX22_init_35 rfl rfl ?_
  refine x_aload_n HE 2 dX22_init_36 rfl rfl ?_
  refine x_iconst HE dX22_init_37 (by decide) ?_
  refine x_iconst HE dX22_init_38 (by decide) ?_
  refine x_iload HE dX22_init_39 rfl ?_
  refine x_iconst HE dX22_init_41 (by decide) ?_
  refine x_iconst HE dX22_init_42 (by decide) ?_
  obtain ⟨u43_0, hw⟩ := hw
  refine x_callV HE dX22_init_43 rfl (fun l => k_X22_goes 9 u43_0 l hw) (As := [rV x2, iV 0, iV 0, iV x4, iV 0, iV 0]) (rest := []) rfl xc21 (Lay_X22.tag u43_0) (lw_V q1598 q1600 qs49 q158 q1601) hy_X22_goes rfl rfl (Nat.le_of_ble_eq_true rfl) (Nat.le_of_ble_eq_true rfl) (Nat.le_of_ble_eq_true rfl) (kkV (fun m43 E43 hw => ?_))
  have hw := hw E43
  exact x_vret HE hr dX22_init_46 hw
theorem k_X22_init {G : GT} {x0 x1 x2 x3 x4 : Int} {Q : Hp → Prop} {h : Hp} (f0 : hT h x0 = 21) (l : Launch) (hw : g_X22_init x0 x1 x2 x3 x4 Q h) : XM G l yX22_init cX22_init 5 none 14 368 [rV x0, rV x1, rV x2, iV x3, iV x4] (QV Q) h :=
  XM.of (by decide) (Nat.le_of_ble_eq_true rfl) (fun X HE hr hn => w_X22_init_0 HE hr hn f0 hw)
def g_X22_at (x0 x1 : Int) (Q : Int → Hp → Prop) (h : Hp) : Prop :=
  ((0 : Int) ≤ x1 ∧ x1 < 7) ∧ (Q (hA h (x0 + 2) x1) h)
theorem w_X22_at_0 {G : GT} {X : ET} {h0 : Hp} {x0 x1 : Int} (HE : XE G X cX22_at 2 RX22 0 0 h0) (hr : XR X (some .int)) (f0 : Lay_X22 h0 x0) {Q : Int → Hp → Prop} {h : Hp} (hw : g_X22_at x0 x1 Q h) : Wx G X h0 (QI Q) h 0 [some (rV x0), some (iV x1)] [] := by
  refine Wx.start (fun EB => ?_)
  unfold g_X22_at at hw
  refine x_aload_n HE 0 dX22_at_0 rfl rfl ?_
  refine x_gR HE dX22_at_1 fd_X22_2 q1607 (Or.inl rfl) (Lay_X22.tag (f0.ext EB)) (Lay_X22_2 (f0.ext EB)).1 ?_
  refine x_iload_n HE 1 dX22_at_4 rfl rfl ?_
  obtain ⟨i5, hw⟩ := hw
  refine x_iald HE dX22_at_5 (t := 1) (by decide) ((Lay_X22_2 (f0.ext EB)).2.1) (ix_of ((Lay_X22_2 (f0.ext EB)).2.2) i5) rfl ?_
  exact x_iret HE hr dX22_at_6 hw
theorem k_X22_at {G : GT} {x0 x1 : Int} {Q : Int → Hp → Prop} {h : Hp} (f0 : Lay_X22 h x0) (l : Launch) (hw : g_X22_at x0 x1 Q h) : XM G l yX22_at cX22_at 2 (some .int) 0 0 [rV x0, iV x1] (QI Q) h :=
  XM.of (by decide) (Nat.le_of_ble_eq_true rfl) (fun X HE hr hn => w_X22_at_0 HE hr f0 hw)
def g_X23_init (x0 x1 : Int) (Q : Hp → Prop) (h : Hp) : Prop :=
  (capOK h 10) ∧ (∀ (a7 : Int) (m7 : Hp), a7 = hN h → m7 = alloc h 1 10 10 → WFa h → ((hF m7 x0 1 = 0) ∧ (∀ m9 : Hp, m9 = setF m7 x0 1 a7 → ((hF m9 x0 0 = 0) ∧ (∀ m14 : Hp, m14 = setF m9 x0 0 x1 → (Q m14))))))
theorem w_X23_init_0 {G : GT} {X : ET} {h0 : Hp} {x0 x1 : Int} (HE : XE G X cX23_init 2 RX23 1 20 h0) (hr : XR X none) (hn : XN X "<init>") (f0 : hT h0 x0 = 22) {Q : Hp → Prop} {h : Hp} (hw : g_X23_init x0 x1 Q h) : Wx G X h0 (QV Q) h 0 [some (rV x0), some (rV x1)] [] := by
  refine Wx.start (fun EB => ?_)
  unfold g_X23_init at hw
  refine x_aload_n HE 0 dX23_init_0 rfl rfl ?_
  refine Wx.wf (fun wf1 => ?_)
  refine x_objInit HE dX23_init_1 rfl q1639 q170 q171 (tag_pos wf1 (EB.tag f0 (by decide)) (by decide)) (Nat.le_of_ble_eq_true rfl) (Nat.le_of_ble_eq_true rfl) (Nat.le_of_ble_eq_true rfl) ?_
  refine x_aload_n HE 0 dX23_init_4 rfl rfl ?_
  refine x_bipush HE dX23_init_5 (by decide) ?_
  obtain ⟨v7, hw⟩ := hw
  refine x_newIN HE dX23_init_7 q1019 (by decide) v7 (fun a7 m7 ea7 em7 E7 w7 => ?_)
  have hw := hw a7 m7 ea7 em7 w7
  have t7 := alloc_tag ea7 em7
  have l7 := alloc_len ea7 em7
  obtain ⟨z9, hw⟩ := hw
  refine x_pR HE dX23_init_9 fd_X23_1 q1641 (Or.inl rfl) (Or.inr ⟨rfl, hn, rfl⟩) (nf_arr _ _) ((EB.tr E7).tag f0 (by decide)) (nro (by decide)) (Or.inr z9) (fun m9 em9 E9 => ?_)
  have hw := hw m9 em9
  refine x_aload_n HE 0 dX23_init_12 rfl rfl ?_
  refine x_aload_n HE 1 dX23_init_13 rfl rfl ?_
  obtain ⟨z14, hw⟩ := hw
  refine x_pR HE dX23_init_14 fd_X23_0 q1640 (Or.inl rfl) (Or.inr ⟨rfl, hn, rfl⟩) (nf_obj _ _) ((EB.tr (E7.tr E9)).tag f0 (by decide)) (nro (by decide)) (Or.inr z14) (fun m14 em14 E14 => ?_)
  have hw := hw m14 em14
  exact x_vret HE hr dX23_init_17 hw
theorem k_X23_init {G : GT} {x0 x1 : Int} {Q : Hp → Prop} {h : Hp} (f0 : hT h x0 = 22) (l : Launch) (hw : g_X23_init x0 x1 Q h) : XM G l yX23_init cX23_init 2 none 1 20 [rV x0, rV x1] (QV Q) h :=
  XM.of (by decide) (Nat.le_of_ble_eq_true rfl) (fun X HE hr hn => w_X23_init_0 HE hr hn f0 hw)
def g_X23_canBe_b196 (x0 x1 : Int) (Q : Int → Hp → Prop) (h : Hp) : Prop :=
  Q 1 h
theorem w_X23_canBe_196 {G : GT} {X : ET} {h0 : Hp} {x0 x1 : Int} (HE : XE G X cX23_canBe 4 RX23 3 64 h0) (hr : XR X (some .boolean)) (f0 : Lay_X23 h0 x0) {Q : Int → Hp → Prop} {h : Hp} (hw : g_X23_canBe_b196 x0 x1 Q  h) : Wx G X h0 (QI Q) h 196 [some (rV x0), some (iV x1), none, none] [] := by
  refine Wx.start (fun EB => ?_)
  unfold g_X23_canBe_b196 at hw
  refine x_iconst HE dX23_canBe_196 (by decide) ?_
  exact x_zret HE hr dX23_canBe_197 (by decide) hw
def g_X23_canBe_b188 (x0 x1 : Int) (Q : Int → Hp → Prop) (h : Hp) : Prop :=
  Q 0 h
theorem w_X23_canBe_188 {G : GT} {X : ET} {h0 : Hp} {x0 x1 : Int} (HE : XE G X cX23_canBe 4 RX23 3 64 h0) (hr : XR X (some .boolean)) (f0 : Lay_X23 h0 x0) {Q : Int → Hp → Prop} {h : Hp} (hw : g_X23_canBe_b188 x0 x1 Q  h) : Wx G X h0 (QI Q) h 188 [some (rV x0), some (iV x1), none, none] [] := by
  refine Wx.start (fun EB => ?_)
  unfold g_X23_canBe_b188 at hw
  refine x_iconst HE dX23_canBe_188 (by decide) ?_
  exact x_zret HE hr dX23_canBe_189 (by decide) hw
def g_X23_canBe_L169 (x0 x1 : Int) (Q : Int → Hp → Prop) (K169 : Int → Hp → Prop) (l2 : Int) (h : Hp) : Prop :=
  ((10 ≤ l2) → (g_X23_canBe_b196 x0 x1 Q h)) ∧ ((l2 < 10) → (((0 : Int) ≤ l2 ∧ l2 < 10) ∧ (g_X1_holds (hA h (x0 + 1) l2) l2 (fun r182 m182 => Ext h m182 → (((r182 = 0) → ((i32 (l2 + 1)) ∧ (∀ y190 : Int, y190 = l2 + 1 → (K169 y190 m182)))) ∧ ((r182 ≠ 0) → (g_X23_canBe_b188 x0 x1 Q m182)))) h)))
theorem w_X23_canBe_169 {G : GT} {X : ET} {h0 : Hp} {x0 x1 : Int} (HE : XE G X cX23_canBe 4 RX23 3 64 h0) (hr : XR X (some .boolean)) (f0 : Lay_X23 h0 x0) {Q : Int → Hp → Prop} {K169 : Int → Hp → Prop} (hK169 : ∀ (l2 : Int) (h : Hp), K169 l2 h → Wx G X h0 (QI Q) h 169 [some (rV x0), some (iV x1), some (iV l2), none] []) {l2 : Int} {h : Hp} (hw : g_X23_canBe_L169 x0 x1 Q K169 l2 h) : Wx G X h0 (QI Q) h 169 [some (rV x0), some (iV x1), some (iV l2), none] [] := by
  refine Wx.start (fun EB => ?_)
  unfold g_X23_canBe_L169 at hw
  refine x_iload_n HE 2 dX23_canBe_169 rfl rfl ?_
  refine x_bipush HE dX23_canBe_170 (by decide) ?_
  refine x_ic_ge HE 196 dX23_canBe_172 (by decide) (fun c172 => ?_) (fun c172 => ?_)
  · have hw := hw.1 c172
    refine Wx.mask [true, true, false, true] (lo2 := [some (rV x0), some (iV x1), none, none]) rfl ?_
    exact w_X23_canBe_196 HE hr f0 hw
  · have hw := hw.2 c172
    refine x_aload_n HE 0 dX23_canBe_175 rfl rfl ?_
    refine x_gR HE dX23_canBe_176 fd_X23_1 q1641 (Or.inl rfl) (Lay_X23.tag (f0.ext EB)) (Lay_X23_1 (f0.ext EB)).1 ?_
    refine x_iload_n HE 2 dX23_canBe_179 rfl rfl ?_
    obtain ⟨i180, hw⟩ := hw
    refine x_iald HE dX23_canBe_180 (t := 1) (by decide) ((Lay_X23_1 (f0.ext EB)).2.1) (ix_of ((Lay_X23_1 (f0.ext EB)).2.2) i180) rfl ?_
    refine x_iload_n HE 2 dX23_canBe_181 rfl rfl ?_
    refine x_callSN HE dX23_canBe_182 rfl (fun l => k_X1_holds  l hw) (As := [iV (hA h (x0 + 1) l2), iV l2]) (rest := []) rfl (List.mem_of_getElem? (i := 25) rfl) q123 q1570 q1571 hy_X1_holds.2 rfl rfl (Nat.le_of_ble_eq_true rfl) (Nat.le_of_ble_eq_true rfl) (Nat.le_of_ble_eq_true rfl) (kkI (fun r182 m182 E182 hw => ?_))
    have hw := hw E182
    refine x_if_eq HE 190 dX23_canBe_185 (by decide) (fun c185 => ?_) (fun c185 => ?_)
    · have hw := hw.1 c185
      obtain ⟨v190, hw⟩ := hw
      refine x_iincN HE (fun y190 => [some (rV x0), some (iV x1), some (iV y190), none]) dX23_canBe_190 rfl v190 (Nat.le_of_ble_eq_true rfl) (fun _ => rfl) (fun y190 ey190 => ?_)
      have hw := hw y190 ey190
      refine x_goto HE 169 dX23_canBe_193 (by decide) ?_
      exact hK169 _ _ hw
    · have hw := hw.2 c185
      refine Wx.mask [true, true, false, true] (lo2 := [some (rV x0), some (iV x1), none, none]) rfl ?_
      exact w_X23_canBe_188 HE hr f0 hw
theorem wl_X23_canBe_169 {G : GT} {X : ET} {h0 : Hp} {x0 x1 : Int} (HE : XE G X cX23_canBe 4 RX23 3 64 h0) (hr : XR X (some .boolean)) (f0 : Lay_X23 h0 x0) {Q : Int → Hp → Prop} {l2 : Int} {h : Hp} (hw : Lp1 (g_X23_canBe_L169 x0 x1 Q) l2 h) : Wx G X h0 (QI Q) h 169 [some (rV x0), some (iV x1), some (iV l2), none] [] := by
  obtain ⟨n, hw⟩ := hw
  induction n generalizing l2 h with
  | zero => exact hw.elim
  | succ n ih => exact w_X23_canBe_169 HE hr f0 (fun _ _ hk => ih hk) hw
def g_X23_canBe_b167 (x0 x1 : Int) (Q : Int → Hp → Prop) (h : Hp) : Prop :=
  Lp1 (g_X23_canBe_L169 x0 x1 Q) 0 h
theorem w_X23_canBe_167 {G : GT} {X : ET} {h0 : Hp} {x0 x1 : Int} (HE : XE G X cX23_canBe 4 RX23 3 64 h0) (hr : XR X (some .boolean)) (f0 : Lay_X23 h0 x0) {Q : Int → Hp → Prop} {h : Hp} (hw : g_X23_canBe_b167 x0 x1 Q  h) : Wx G X h0 (QI Q) h 167 [some (rV x0), some (iV x1), none, none] [] := by
  refine Wx.start (fun EB => ?_)
  unfold g_X23_canBe_b167 at hw
  refine x_iconst HE dX23_canBe_167 (by decide) ?_
  refine x_istore_n HE 2 (lo' := [some (rV x0), some (iV x1), some (iV 0), none]) dX23_canBe_168 rfl (Nat.le_of_ble_eq_true rfl) rfl ?_
  exact wl_X23_canBe_169 HE hr f0 hw
def g_X23_canBe_b161 (x0 x1 : Int) (Q : Int → Hp → Prop) (K113 : Int → Hp → Prop) (l2 : Int) (h : Hp) : Prop :=
  (i32 (l2 + 1)) ∧ (∀ y161 : Int, y161 = l2 + 1 → (K113 y161 h))
theorem w_X23_canBe_161 {G : GT} {X : ET} {h0 : Hp} {x0 x1 : Int} (HE : XE G X cX23_canBe 4 RX23 3 64 h0) (hr : XR X (some .boolean)) (f0 : Lay_X23 h0 x0) {Q : Int → Hp → Prop} {K113 : Int → Hp → Prop} (hK113 : ∀ (l2 : Int) (h : Hp), K113 l2 h → Wx G X h0 (QI Q) h 113 [some (rV x0), some (iV x1), some (iV l2), none] []) {l2 : Int} {h : Hp} (hw : g_X23_canBe_b161 x0 x1 Q K113 l2 h) : Wx G X h0 (QI Q) h 161 [some (rV x0), some (iV x1), some (iV l2), none] [] := by
  refine Wx.start (fun EB => ?_)
  unfold g_X23_canBe_b161 at hw
  obtain ⟨v161, hw⟩ := hw
  refine x_iincN HE (fun y161 => [some (rV x0), some (iV x1), some (iV y161), none]) dX23_canBe_161 rfl v161 (Nat.le_of_ble_eq_true rfl) (fun _ => rfl) (fun y161 ey161 => ?_)
  have hw := hw y161 ey161
  refine x_goto HE 113 dX23_canBe_164 (by decide) ?_
  exact hK113 _ _ hw
def g_X23_canBe_b155 (x0 x1 : Int) (Q : Int → Hp → Prop) (K113 : Int → Hp → Prop) (K121 : Int → Int → Hp → Prop) (l2 l3 : Int) (h : Hp) : Prop :=
  (i32 (l3 + 1)) ∧ (∀ y155 : Int, y155 = l3 + 1 → (K121 l2 y155 h))
theorem w_X23_canBe_155 {G : GT} {X : ET} {h0 : Hp} {x0 x1 : Int} (HE : XE G X cX23_canBe 4 RX23 3 64 h0) (hr : XR X (some .boolean)) (f0 : Lay_X23 h0 x0) {Q : Int → Hp → Prop} {K113 : Int → Hp → Prop} (hK113 : ∀ (l2 : Int) (h : Hp), K113 l2 h → Wx G X h0 (QI Q) h 113 [some (rV x0), some (iV x1), some (iV l2), none] []) {K121 : Int → Int → Hp → Prop} (hK121 : ∀ (l2 l3 : Int) (h : Hp), K121 l2 l3 h → Wx G X h0 (QI Q) h 121 [some (rV x0), some (iV x1), some (iV l2), some (iV l3)] []) {l2 l3 : Int} {h : Hp} (hw : g_X23_canBe_b155 x0 x1 Q K113 K121 l2 l3 h) : Wx G X h0 (QI Q) h 155 [some (rV x0), some (iV x1), some (iV l2), some (iV l3)] [] := by
  refine Wx.start (fun EB => ?_)
  unfold g_X23_canBe_b155 at hw
  obtain ⟨v155, hw⟩ := hw
  refine x_iincN HE (fun y155 => [some (rV x0), some (iV x1), some (iV l2), some (iV y155)]) dX23_canBe_155 rfl v155 (Nat.le_of_ble_eq_true rfl) (fun _ => rfl) (fun y155 ey155 => ?_)
  have hw := hw y155 ey155
  refine x_goto HE 121 dX23_canBe_158 (by decide) ?_
  exact hK121 _ _ _ hw
def g_X23_canBe_L121 (x0 x1 : Int) (Q : Int → Hp → Prop) (K113 : Int → Hp → Prop) (K121 : Int → Int → Hp → Prop) (l2 l3 : Int) (h : Hp) : Prop :=
  ((10 ≤ l3) → (g_X23_canBe_b161 x0 x1 Q K113 l2 h)) ∧ ((l3 < 10) → (((0 : Int) ≤ l3 ∧ l3 < 10) ∧ (g_X1_holds (hA h (x0 + 1) l3) l2 (fun r134 m134 => Ext h m134 → (((r134 = 0) → (g_X23_canBe_b155 x0 x1 Q K113 K121 l2 l3 m134)) ∧ ((r134 ≠ 0) → (((0 : Int) ≤ l3 ∧ l3 < 10) ∧ (((0 : Int) ≤ l2 ∧ l2 < 10) ∧ (((0 : Int) ≤ l3 ∧ l3 < 10) ∧ (∀ m154 : Hp, m154 = setA m134 (x0 + 1) l3 (bOr (hA m134 (x0 + 1) l3) (hA m134 (x0 + 1) l2)) → (g_X23_canBe_b155 x0 x1 Q K113 K121 l2 l3 m154)))))))) h)))
theorem w_X23_canBe_121 {G : GT} {X : ET} {h0 : Hp} {x0 x1 : Int} (HE : XE G X cX23_canBe 4 RX23 3 64 h0) (hr : XR X (some .boolean)) (f0 : Lay_X23 h0 x0) {Q : Int → Hp → Prop} {K113 : Int → Hp → Prop} (hK113 : ∀ (l2 : Int) (h : Hp), K113 l2 h → Wx G X h0 (QI Q) h 113 [some (rV x0), some (iV x1), some (iV l2), none] []) {K121 : Int → Int → Hp → Prop} (hK121 : ∀ (l2 l3 : Int) (h : Hp), K121 l2 l3 h → Wx G X h0 (QI Q) h 121 [some (rV x0), some (iV x1), some (iV l2), some (iV l3)] []) {l2 l3 : Int} {h : Hp} (hw : g_X23_canBe_L121 x0 x1 Q K113 K121 l2 l3 h) : Wx G X h0 (QI Q) h 121 [some (rV x0), some (iV x1), some (iV l2), some (iV l3)] [] := by
  refine Wx.start (fun EB => ?_)
  unfold g_X23_canBe_L121 at hw
  refine x_iload_n HE 3 dX23_canBe_121 rfl rfl ?_
  refine x_bipush HE dX23_canBe_122 (by decide) ?_
  refine x_ic_ge HE 161 dX23_canBe_124 (by decide) (fun c124 => ?_) (fun c124 => ?_)
  · have hw := hw.1 c124
    refine Wx.mask [true, true, true, false] (lo2 := [some (rV x0), some (iV x1), some (iV l2), none]) rfl ?_
    exact w_X23_canBe_161 HE hr f0 hK113 hw
  · have hw := hw.2 c124
    refine x_aload_n HE 0 dX23_canBe_127 rfl rfl ?_
    refine x_gR HE dX23_canBe_128 fd_X23_1 q1641 (Or.inl rfl) (Lay_X23.tag (f0.ext EB)) (Lay_X23_1 (f0.ext EB)).1 ?_
    refine x_iload_n HE 3 dX23_canBe_131 rfl rfl ?_
    obtain ⟨i132, hw⟩ := hw
    refine x_iald HE dX23_canBe_132 (t := 1) (by decide) ((Lay_X23_1 (f0.ext EB)).2.1) (ix_of ((Lay_X23_1 (f0.ext EB)).2.2) i132) rfl ?_
    refine x_iload_n HE 2 dX23_canBe_133 rfl rfl ?_
    refine x_callSN HE dX23_canBe_134 rfl (fun l => k_X1_holds  l hw) (As := [iV (hA h (x0 + 1) l3), iV l2]) (rest := []) rfl (List.mem_of_getElem? (i := 25) rfl) q123 q1570 q1571 hy_X1_holds.2 rfl rfl (Nat.le_of_ble_eq_true rfl) (Nat.le_of_ble_eq_true rfl) (Nat.le_of_ble_eq_true rfl) (kkI (fun r134 m134 E134 hw => ?_))
    have hw := hw E134
    refine x_if_eq HE 155 dX23_canBe_137 (by decide) (fun c137 => ?_) (fun c137 => ?_)
    · have hw := hw.1 c137
      exact w_X23_canBe_155 HE hr f0 hK113 hK121 hw
    · have hw := hw.2 c137
      refine x_aload_n HE 0 dX23_canBe_140 rfl rfl ?_
      refine x_gR HE dX23_canBe_141 fd_X23_1 q1641 (Or.inl rfl) (Lay_X23.tag (f0.ext (EB.tr E134))) (Lay_X23_1 (f0.ext (EB.tr E134))).1 ?_
      refine x_iload_n HE 3 dX23_canBe_144 rfl rfl ?_
      refine x_dup2 HE dX23_canBe_145 (fun o => o) (fun o => o) ?_
      obtain ⟨i146, hw⟩ := hw
      refine x_iald HE dX23_canBe_146 (t := 1) (by decide) ((Lay_X23_1 (f0.ext (EB.tr E134))).2.1) (ix_of ((Lay_X23_1 (f0.ext (EB.tr E134))).2.2) i146) rfl ?_
      refine x_aload_n HE 0 dX23_canBe_147 rfl rfl ?_
      refine x_gR HE dX23_canBe_148 fd_X23_1 q1641 (Or.inl rfl) (Lay_X23.tag (f0.ext (EB.tr E134))) (Lay_X23_1 (f0.ext (EB.tr E134))).1 ?_
      refine x_iload_n HE 2 dX23_canBe_151 rfl rfl ?_
      obtain ⟨i152, hw⟩ := hw
      refine x_iald HE dX23_canBe_152 (t := 1) (by decide) ((Lay_X23_1 (f0.ext (EB.tr E134))).2.1) (ix_of ((Lay_X23_1 (f0.ext (EB.tr E134))).2.2) i152) rfl ?_
      refine x_ior HE dX23_canBe_153 ?_
      obtain ⟨i154, hw⟩ := hw
      refine x_iast HE dX23_canBe_154 ((Lay_X23_1 (f0.ext (EB.tr E134))).2.1) (ix_of ((Lay_X23_1 (f0.ext (EB.tr E134))).2.2) i154) (fun m154 em154 E154 => ?_)
      have hw := hw m154 em154
      exact w_X23_canBe_155 HE hr f0 hK113 hK121 hw
theorem wl_X23_canBe_121 {G : GT} {X : ET} {h0 : Hp} {x0 x1 : Int} (HE : XE G X cX23_canBe 4 RX23 3 64 h0) (hr : XR X (some .boolean)) (f0 : Lay_X23 h0 x0) {Q : Int → Hp → Prop} {K113 : Int → Hp → Prop} (hK113 : ∀ (l2 : Int) (h : Hp), K113 l2 h → Wx G X h0 (QI Q) h 113 [some (rV x0), some (iV x1), some (iV l2), none] []) {l2 l3 : Int} {h : Hp} (hw : Lp2 (g_X23_canBe_L121 x0 x1 Q K113) l2 l3 h) : Wx G X h0 (QI Q) h 121 [some (rV x0), some (iV x1), some (iV l2), some (iV l3)] [] := by
  obtain ⟨n, hw⟩ := hw
  induction n generalizing l2 l3 h with
  | zero => exact hw.elim
  | succ n ih => exact w_X23_canBe_121 HE hr f0 hK113 (fun _ _ _ hk => ih hk) hw
def g_X23_canBe_L113 (x0 x1 : Int) (Q : Int → Hp → Prop) (K113 : Int → Hp → Prop) (l2 : Int) (h : Hp) : Prop :=
  ((10 ≤ l2) → (g_X23_canBe_b167 x0 x1 Q h)) ∧ ((l2 < 10) → (Lp2 (g_X23_canBe_L121 x0 x1 Q K113) l2 0 h))
theorem w_X23_canBe_113 {G : GT} {X : ET} {h0 : Hp} {x0 x1 : Int} (HE : XE G X cX23_canBe 4 RX23 3 64 h0) (hr : XR X (some .boolean)) (f0 : Lay_X23 h0 x0) {Q : Int → Hp → Prop} {K113 : Int → Hp → Prop} (hK113 : ∀ (l2 : Int) (h : Hp), K113 l2 h → Wx G X h0 (QI Q) h 113 [some (rV x0), some (iV x1), some (iV l2), none] []) {l2 : Int} {h : Hp} (hw : g_X23_canBe_L113 x0 x1 Q K113 l2 h) : Wx G X h0 (QI Q) h 113 [some (rV x0), some (iV x1), some (iV l2), none] [] := by
  refine Wx.start (fun EB => ?_)
  unfold g_X23_canBe_L113 at hw
  refine x_iload_n HE 2 dX23_canBe_113 rfl rfl ?_
  refine x_bipush HE dX23_canBe_114 (by decide) ?_
  refine x_ic_ge HE 167 dX23_canBe_116 (by decide) (fun c116 => ?_) (fun c116 => ?_)
  · have hw := hw.1 c116
    refine Wx.mask [true, true, false, true] (lo2 := [some (rV x0), some (iV x1), none, none]) rfl ?_
    exact w_X23_canBe_167 HE hr f0 hw
  · have hw := hw.2 c116
    refine x_iconst HE dX23_canBe_119 (by decide) ?_
    refine x_istore_n HE 3 (lo' := [some (rV x0), some (iV x1), some (iV l2), some (iV 0)]) dX23_canBe_120 rfl (Nat.le_of_ble_eq_true rfl) rfl ?_
    exact wl_X23_canBe_121 HE hr f0 hK113 hw
theorem wl_X23_canBe_113 {G : GT} {X : ET} {h0 : Hp} {x0 x1 : Int} (HE : XE G X cX23_canBe 4 RX23 3 64 h0) (hr : XR X (some .boolean)) (f0 : Lay_X23 h0 x0) {Q : Int → Hp → Prop} {l2 : Int} {h : Hp} (hw : Lp1 (g_X23_canBe_L113 x0 x1 Q) l2 h) : Wx G X h0 (QI Q) h 113 [some (rV x0), some (iV x1), some (iV l2), none] [] := by
  obtain ⟨n, hw⟩ := hw
  induction n generalizing l2 h with
  | zero => exact hw.elim
  | succ n ih => exact w_X23_canBe_113 HE hr f0 (fun _ _ hk => ih hk) hw
def g_X23_canBe_b111 (x0 x1 : Int) (Q : Int → Hp → Prop) (h : Hp) : Prop :=
  Lp1 (g_X23_canBe_L113 x0 x1 Q) 0 h
theorem w_X23_canBe_111 {G : GT} {X : ET} {h0 : Hp} {x0 x1 : Int} (HE : XE G X cX23_canBe 4 RX23 3 64 h0) (hr : XR X (some .boolean)) (f0 : Lay_X23 h0 x0) {Q : Int → Hp → Prop} {h : Hp} (hw : g_X23_canBe_b111 x0 x1 Q  h) : Wx G X h0 (QI Q) h 111 [some (rV x0), some (iV x1), none, none] [] := by
  refine Wx.start (fun EB => ?_)
  unfold g_X23_canBe_b111 at hw
  refine x_iconst HE dX23_canBe_111 (by decide) ?_
  refine x_istore_n HE 2 (lo' := [some (rV x0), some (iV x1), some (iV 0), none]) dX23_canBe_112 rfl (Nat.le_of_ble_eq_true rfl) rfl ?_
  exact wl_X23_canBe_113 HE hr f0 hw
def g_X23_canBe_b105 (x0 x1 : Int) (Q : Int → Hp → Prop) (K23 : Int → Hp → Prop) (l2 : Int) (h : Hp) : Prop :=
  (i32 (l2 + 1)) ∧ (∀ y105 : Int, y105 = l2 + 1 → (K23 y105 h))
theorem w_X23_canBe_105 {G : GT} {X : ET} {h0 : Hp} {x0 x1 : Int} (HE : XE G X cX23_canBe 4 RX23 3 64 h0) (hr : XR X (some .boolean)) (f0 : Lay_X23 h0 x0) {Q : Int → Hp → Prop} {K23 : Int → Hp → Prop} (hK23 : ∀ (l2 : Int) (h : Hp), K23 l2 h → Wx G X h0 (QI Q) h 23 [some (rV x0), some (iV x1), some (iV l2), none] []) {l2 : Int} {h : Hp} (hw : g_X23_canBe_b105 x0 x1 Q K23 l2 h) : Wx G X h0 (QI Q) h 105 [some (rV x0), some (iV x1), some (iV l2), none] [] := by
  refine Wx.start (fun EB => ?_)
  unfold g_X23_canBe_b105 at hw
  obtain ⟨v105, hw⟩ := hw
  refine x_iincN HE (fun y105 => [some (rV x0), some (iV x1), some (iV y105), none]) dX23_canBe_105 rfl v105 (Nat.le_of_ble_eq_true rfl) (fun _ => rfl) (fun y105 ey105 => ?_)
  have hw := hw y105 ey105
  refine x_goto HE 23 dX23_canBe_108 (by decide) ?_
  exact hK23 _ _ hw
def g_X23_canBe_L23 (x0 x1 : Int) (Q : Int → Hp → Prop) (K23 : Int → Hp → Prop) (l2 : Int) (h : Hp) : Prop :=
  (Lay_X7 h (hF h x0 0)) ∧ (g_J2_size ((hF h x0 0) + 4) (fun r31 m31 => Ext h m31 → (((r31 ≤ l2) → (g_X23_canBe_b111 x0 x1 Q m31)) ∧ ((l2 < r31) → ((Lay_X7 m31 (hF m31 x0 0)) ∧ (g_J2_get ((hF m31 x0 0) + 4) l2 (fun r46 m46 => Ext m31 m46 → ((hT m46 r46 = 17) ∧ (g_X1_holds x1 (hF m46 r46 0) (fun r55 m55 => Ext m46 m55 → (((r55 ≠ 0) → (g_X23_canBe_b105 x0 x1 Q K23 l2 m55)) ∧ ((r55 = 0) → ((Lay_X7 m55 (hF m55 x0 0)) ∧ (g_J2_get ((hF m55 x0 0) + 4) l2 (fun r73 m73 => Ext m55 m73 → ((hT m73 r73 = 17) ∧ (((0 : Int) ≤ (hF m73 r73 1) ∧ (hF m73 r73 1) < 10) ∧ ((Lay_X7 m73 (hF m73 x0 0)) ∧ (g_J2_get ((hF m73 x0 0) + 4) l2 (fun r93 m93 => Ext m73 m93 → ((hT m93 r93 = 17) ∧ (((0 : Int) ≤ (hF m73 r73 1) ∧ (hF m73 r73 1) < 10) ∧ (∀ m104 : Hp, m104 = setA m93 (x0 + 1) (hF m73 r73 1) (bOr (hA m73 (x0 + 1) (hF m73 r73 1)) (bShl 1 (hF m93 r93 2))) → (g_X23_canBe_b105 x0 x1 Q K23 l2 m104))))) m73))))) m55))))) m46))) m31))))) h)
theorem w_X23_canBe_23 {G : GT} {X : ET} {h0 : Hp} {x0 x1 : Int} (HE : XE G X cX23_canBe 4 RX23 3 64 h0) (hr : XR X (some .boolean)) (f0 : Lay_X23 h0 x0) {Q : Int → Hp → Prop} {K23 : Int → Hp → Prop} (hK23 : ∀ (l2 : Int) (h : Hp), K23 l2 h → Wx G X h0 (QI Q) h 23 [some (rV x0), some (iV x1), some (iV l2), none] []) {l2 : Int} {h : Hp} (hw : g_X23_canBe_L23 x0 x1 Q K23 l2 h) : Wx G X h0 (QI Q) h 23 [some (rV x0), some (iV x1), some (iV l2), none] [] := by
  refine Wx.start (fun EB => ?_)
  unfold g_X23_canBe_L23 at hw
  refine x_iload_n HE 2 dX23_canBe_23 rfl rfl ?_
  refine x_aload_n HE 0 dX23_canBe_24 rfl rfl ?_
  refine x_gR HE dX23_canBe_25 fd_X23_0 q1640 (Or.inl rfl) (Lay_X23.tag (f0.ext EB)) rfl ?_
  obtain ⟨v28, hw⟩ := hw
  refine x_gR HE dX23_canBe_28 fd_X7_6 q333 (Or.inl rfl) (Lay_X7.tag v28) (Lay_X7_6 v28).1 ?_
  refine x_callV HE dX23_canBe_31 rfl (fun l => k_J2_size ((Lay_X7_6 v28).2) l hw) (As := []) (rest := [iV l2]) rfl xc32 ((Lay_X7_6 v28).2) (lw_V q1651 q708 q709 q128 q710) hy_J2_size rfl rfl (Nat.le_of_ble_eq_true rfl) (Nat.le_of_ble_eq_true rfl) (Nat.le_of_ble_eq_true rfl) (kkI (fun r31 m31 E31 hw => ?_))
  have hw := hw E31
  refine x_ic_ge HE 111 dX23_canBe_34 (by decide) (fun c34 => ?_) (fun c34 => ?_)
  · have hw := hw.1 c34
    refine Wx.mask [true, true, false, true] (lo2 := [some (rV x0), some (iV x1), none, none]) rfl ?_
    exact w_X23_canBe_111 HE hr f0 hw
  · have hw := hw.2 c34
    refine x_iload_n HE 1 dX23_canBe_37 rfl rfl ?_
    refine x_aload_n HE 0 dX23_canBe_38 rfl rfl ?_
    refine x_gR HE dX23_canBe_39 fd_X23_0 q1640 (Or.inl rfl) (Lay_X23.tag (f0.ext (EB.tr E31))) rfl ?_
    obtain ⟨v42, hw⟩ := hw
    refine x_gR HE dX23_canBe_42 fd_X7_6 q333 (Or.inl rfl) (Lay_X7.tag v42) (Lay_X7_6 v42).1 ?_
    refine x_iload_n HE 2 dX23_canBe_45 rfl rfl ?_
    refine x_callV HE dX23_canBe_46 rfl (fun l => k_J2_get ((Lay_X7_6 v42).2) l hw) (As := [iV l2]) (rest := [iV x1]) rfl xc32 ((Lay_X7_6 v42).2) (lw_V q1657 q736 q737 q128 q738) hy_J2_get rfl rfl (Nat.le_of_ble_eq_true rfl) (Nat.le_of_ble_eq_true rfl) (Nat.le_of_ble_eq_true rfl) (kkR (fun r46 m46 E46 hw => ?_))
    have hw := hw E46
    obtain ⟨v49, hw⟩ := hw
    refine x_castS HE dX23_canBe_49 xc17 q1658 v49 ?_
    refine x_gI HE dX23_canBe_52 fd_X20_0 q1060 (Or.inl rfl) v49 rfl ?_
    refine x_callSN HE dX23_canBe_55 rfl (fun l => k_X1_holds  l hw) (As := [iV x1, iV (hF m46 r46 0)]) (rest := []) rfl (List.mem_of_getElem? (i := 25) rfl) q123 q1570 q1571 hy_X1_holds.2 rfl rfl (Nat.le_of_ble_eq_true rfl) (Nat.le_of_ble_eq_true rfl) (Nat.le_of_ble_eq_true rfl) (kkI (fun r55 m55 E55 hw => ?_))
    have hw := hw E55
    refine x_if_ne HE 105 dX23_canBe_58 (by decide) (fun c58 => ?_) (fun c58 => ?_)
    · have hw := hw.1 c58
      exact w_X23_canBe_105 HE hr f0 hK23 hw
    · have hw := hw.2 c58
      refine x_aload_n HE 0 dX23_canBe_61 rfl rfl ?_
      refine x_gR HE dX23_canBe_62 fd_X23_1 q1641 (Or.inl rfl) (Lay_X23.tag (f0.ext (EB.tr (E31.tr (E46.tr E55))))) (Lay_X23_1 (f0.ext (EB.tr (E31.tr (E46.tr E55))))).1 ?_
      refine x_aload_n HE 0 dX23_canBe_65 rfl rfl ?_
      refine x_gR HE dX23_canBe_66 fd_X23_0 q1640 (Or.inl rfl) (Lay_X23.tag (f0.ext (EB.tr (E31.tr (E46.tr E55))))) rfl ?_
      obtain ⟨v69, hw⟩ := hw
      refine x_gR HE dX23_canBe_69 fd_X7_6 q333 (Or.inl rfl) (Lay_X7.tag v69) (Lay_X7_6 v69).1 ?_
      refine x_iload_n HE 2 dX23_canBe_72 rfl rfl ?_
      refine x_callV HE dX23_canBe_73 rfl (fun l => k_J2_get ((Lay_X7_6 v69).2) l hw) (As := [iV l2]) (rest := [rV (x0 + 1)]) rfl xc32 ((Lay_X7_6 v69).2) (lw_V q1657 q736 q737 q128 q738) hy_J2_get rfl rfl (Nat.le_of_ble_eq_true rfl) (Nat.le_of_ble_eq_true rfl) (Nat.le_of_ble_eq_true rfl) (kkR (fun r73 m73 E73 hw => ?_))
      have hw := hw E73
      obtain ⟨v76, hw⟩ := hw
      refine x_castS HE dX23_canBe_76 xc17 q1658 v76 ?_
      refine x_gI HE dX23_canBe_79 fd_X20_1 q1062 (Or.inl rfl) v76 rfl ?_
      refine x_dup2 HE dX23_canBe_82 (fun o => o) (fun o => o) ?_
      obtain ⟨i83, hw⟩ := hw
      refine x_iald HE dX23_canBe_83 (t := 1) (by decide) ((Lay_X23_1 (f0.ext (EB.tr (E31.tr (E46.tr (E55.tr E73)))))).2.1) (ix_of ((Lay_X23_1 (f0.ext (EB.tr (E31.tr (E46.tr (E55.tr E73)))))).2.2) i83) rfl ?_
      refine x_iconst HE dX23_canBe_84 (by decide) ?_
      refine x_aload_n HE 0 dX23_canBe_85 rfl rfl ?_
      refine x_gR HE dX23_canBe_86 fd_X23_0 q1640 (Or.inl rfl) (Lay_X23.tag (f0.ext (EB.tr (E31.tr (E46.tr (E55.tr E73)))))) rfl ?_
      obtain ⟨v89, hw⟩ := hw
      refine x_gR HE dX23_canBe_89 fd_X7_6 q333 (Or.inl rfl) (Lay_X7.tag v89) (Lay_X7_6 v89).1 ?_
      refine x_iload_n HE 2 dX23_canBe_92 rfl rfl ?_
      refine x_callV HE dX23_canBe_93 rfl (fun l => k_J2_get ((Lay_X7_6 v89).2) l hw) (As := [iV l2]) (rest := [iV 1, iV (hA m73 (x0 + 1) (hF m73 r73 1)), iV (hF m73 r73 1), rV (x0 + 1)]) rfl xc32 ((Lay_X7_6 v89).2) (lw_V q1657 q736 q737 q128 q738) hy_J2_get rfl rfl (Nat.le_of_ble_eq_true rfl) (Nat.le_of_ble_eq_true rfl) (Nat.le_of_ble_eq_true rfl) (kkR (fun r93 m93 E93 hw => ?_))
      have hw := hw E93
      obtain ⟨v96, hw⟩ := hw
      refine x_castS HE dX23_canBe_96 xc17 q1658 v96 ?_
      refine x_gI HE dX23_canBe_99 fd_X20_2 q1065 (Or.inl rfl) v96 rfl ?_
      refine x_ishl HE dX23_canBe_102 ?_
      refine x_ior HE dX23_canBe_103 ?_
      obtain ⟨i104, hw⟩ := hw
      refine x_iast HE dX23_canBe_104 ((Lay_X23_1 (f0.ext (EB.tr (E31.tr (E46.tr (E55.tr (E73.tr E93))))))).2.1) (ix_of ((Lay_X23_1 (f0.ext (EB.tr (E31.tr (E46.tr (E55.tr (E73.tr E93))))))).2.2) i104) (fun m104 em104 E104 => ?_)
      have hw := hw m104 em104
      exact w_X23_canBe_105 HE hr f0 hK23 hw
theorem wl_X23_canBe_23 {G : GT} {X : ET} {h0 : Hp} {x0 x1 : Int} (HE : XE G X cX23_canBe 4 RX23 3 64 h0) (hr : XR X (some .boolean)) (f0 : Lay_X23 h0 x0) {Q : Int → Hp → Prop} {l2 : Int} {h : Hp} (hw : Lp1 (g_X23_canBe_L23 x0 x1 Q) l2 h) : Wx G X h0 (QI Q) h 23 [some (rV x0), some (iV x1), some (iV l2), none] [] := by
  obtain ⟨n, hw⟩ := hw
  induction n generalizing l2 h with
  | zero => exact hw.elim
  | succ n ih => exact w_X23_canBe_23 HE hr f0 (fun _ _ hk => ih hk) hw
def g_X23_canBe_b21 (x0 x1 : Int) (Q : Int → Hp → Prop) (h : Hp) : Prop :=
  Lp1 (g_X23_canBe_L23 x0 x1 Q) 0 h
theorem w_X23_canBe_21 {G : GT} {X : ET} {h0 : Hp} {x0 x1 : Int} (HE : XE G X cX23_canBe 4 RX23 3 64 h0) (hr : XR X (some .boolean)) (f0 : Lay_X23 h0 x0) {Q : Int → Hp → Prop} {h : Hp} (hw : g_X23_canBe_b21 x0 x1 Q  h) : Wx G X h0 (QI Q) h 21 [some (rV x0), some (iV x1), none, none] [] := by
  refine Wx.start (fun EB => ?_)
  unfold g_X23_canBe_b21 at hw
  refine x_iconst HE dX23_canBe_21 (by decide) ?_
  refine x_istore_n HE 2 (lo' := [some (rV x0), some (iV x1), some (iV 0), none]) dX23_canBe_22 rfl (Nat.le_of_ble_eq_true rfl) rfl ?_
  exact wl_X23_canBe_23 HE hr f0 hw
def g_X23_canBe_L2 (x0 x1 : Int) (Q : Int → Hp → Prop) (K2 : Int → Hp → Prop) (l2 : Int) (h : Hp) : Prop :=
  ((10 ≤ l2) → (g_X23_canBe_b21 x0 x1 Q h)) ∧ ((l2 < 10) → (((0 : Int) ≤ l2 ∧ l2 < 10) ∧ (∀ m14 : Hp, m14 = setA h (x0 + 1) l2 0 → ((i32 (l2 + 1)) ∧ (∀ y15 : Int, y15 = l2 + 1 → (K2 y15 m14))))))
theorem w_X23_canBe_2 {G : GT} {X : ET} {h0 : Hp} {x0 x1 : Int} (HE : XE G X cX23_canBe 4 RX23 3 64 h0) (hr : XR X (some .boolean)) (f0 : Lay_X23 h0 x0) {Q : Int → Hp → Prop} {K2 : Int → Hp → Prop} (hK2 : ∀ (l2 : Int) (h : Hp), K2 l2 h → Wx G X h0 (QI Q) h 2 [some (rV x0), some (iV x1), some (iV l2), none] []) {l2 : Int} {h : Hp} (hw : g_X23_canBe_L2 x0 x1 Q K2 l2 h) : Wx G X h0 (QI Q) h 2 [some (rV x0), some (iV x1), some (iV l2), none] [] := by
  refine Wx.start (fun EB => ?_)
  unfold g_X23_canBe_L2 at hw
  refine x_iload_n HE 2 dX23_canBe_2 rfl rfl ?_
  refine x_bipush HE dX23_canBe_3 (by decide) ?_
  refine x_ic_ge HE 21 dX23_canBe_5 (by decide) (fun c5 => ?_) (fun c5 => ?_)
  · have hw := hw.1 c5
    refine Wx.mask [true, true, false, true] (lo2 := [some (rV x0), some (iV x1), none, none]) rfl ?_
    exact w_X23_canBe_21 HE hr f0 hw
  · have hw := hw.2 c5
    refine x_aload_n HE 0 dX23_canBe_8 rfl rfl ?_
    refine x_gR HE dX23_canBe_9 fd_X23_1 q1641 (Or.inl rfl) (Lay_X23.tag (f0.ext EB)) (Lay_X23_1 (f0.ext EB)).1 ?_
    refine x_iload_n HE 2 dX23_canBe_12 rfl rfl ?_
    refine x_iconst HE dX23_canBe_13 (by decide) ?_
    obtain ⟨i14, hw⟩ := hw
    refine x_iast HE dX23_canBe_14 ((Lay_X23_1 (f0.ext EB)).2.1) (ix_of ((Lay_X23_1 (f0.ext EB)).2.2) i14) (fun m14 em14 E14 => ?_)
    have hw := hw m14 em14
    obtain ⟨v15, hw⟩ := hw
    refine x_iincN HE (fun y15 => [some (rV x0), some (iV x1), some (iV y15), none]) dX23_canBe_15 rfl v15 (Nat.le_of_ble_eq_true rfl) (fun _ => rfl) (fun y15 ey15 => ?_)
    have hw := hw y15 ey15
    refine x_goto HE 2 dX23_canBe_18 (by decide) ?_
    exact hK2 _ _ hw
theorem wl_X23_canBe_2 {G : GT} {X : ET} {h0 : Hp} {x0 x1 : Int} (HE : XE G X cX23_canBe 4 RX23 3 64 h0) (hr : XR X (some .boolean)) (f0 : Lay_X23 h0 x0) {Q : Int → Hp → Prop} {l2 : Int} {h : Hp} (hw : Lp1 (g_X23_canBe_L2 x0 x1 Q) l2 h) : Wx G X h0 (QI Q) h 2 [some (rV x0), some (iV x1), some (iV l2), none] [] := by
  obtain ⟨n, hw⟩ := hw
  induction n generalizing l2 h with
  | zero => exact hw.elim
  | succ n ih => exact w_X23_canBe_2 HE hr f0 (fun _ _ hk => ih hk) hw
def g_X23_canBe (x0 x1 : Int) (Q : Int → Hp → Prop) (h : Hp) : Prop :=
  Lp1 (g_X23_canBe_L2 x0 x1 Q) 0 h
theorem w_X23_canBe_0 {G : GT} {X : ET} {h0 : Hp} {x0 x1 : Int} (HE : XE G X cX23_canBe 4 RX23 3 64 h0) (hr : XR X (some .boolean)) (f0 : Lay_X23 h0 x0) {Q : Int → Hp → Prop} {h : Hp} (hw : g_X23_canBe x0 x1 Q h) : Wx G X h0 (QI Q) h 0 [some (rV x0), some (iV x1), none, none] [] := by
  refine Wx.start (fun EB => ?_)
  unfold g_X23_canBe at hw
  refine x_iconst HE dX23_canBe_0 (by decide) ?_
  refine x_istore_n HE 2 (lo' := [some (rV x0), some (iV x1), some (iV 0), none]) dX23_canBe_1 rfl (Nat.le_of_ble_eq_true rfl) rfl ?_
  exact wl_X23_canBe_2 HE hr f0 hw
theorem k_X23_canBe {G : GT} {x0 x1 : Int} {Q : Int → Hp → Prop} {h : Hp} (f0 : Lay_X23 h x0) (l : Launch) (hw : g_X23_canBe x0 x1 Q h) : XM G l yX23_canBe cX23_canBe 4 (some .boolean) 3 64 [rV x0, iV x1] (QI Q) h :=
  XM.of (by decide) (Nat.le_of_ble_eq_true rfl) (fun X HE hr hn => w_X23_canBe_0 HE hr f0 hw)
def g_X23_liars_b52 (x0 : Int) (Q : Int → Hp → Prop) (l1 : Int) (h : Hp) : Prop :=
  Q l1 h
theorem w_X23_liars_52 {G : GT} {X : ET} {h0 : Hp} {x0 : Int} (HE : XE G X cX23_liars 3 RX23 4 87 h0) (hr : XR X (some .int)) (f0 : Lay_X23 h0 x0) {Q : Int → Hp → Prop} {l1 : Int} {h : Hp} (hw : g_X23_liars_b52 x0 Q l1 h) : Wx G X h0 (QI Q) h 52 [some (rV x0), some (iV l1), none] [] := by
  refine Wx.start (fun EB => ?_)
  unfold g_X23_liars_b52 at hw
  refine x_iload_n HE 1 dX23_liars_52 rfl rfl ?_
  exact x_iret HE hr dX23_liars_53 hw
def g_X23_liars_b46 (x0 : Int) (Q : Int → Hp → Prop) (K4 : Int → Int → Hp → Prop) (l1 l2 : Int) (h : Hp) : Prop :=
  (i32 (l2 + 1)) ∧ (∀ y46 : Int, y46 = l2 + 1 → (K4 l1 y46 h))
theorem w_X23_liars_46 {G : GT} {X : ET} {h0 : Hp} {x0 : Int} (HE : XE G X cX23_liars 3 RX23 4 87 h0) (hr : XR X (some .int)) (f0 : Lay_X23 h0 x0) {Q : Int → Hp → Prop} {K4 : Int → Int → Hp → Prop} (hK4 : ∀ (l1 l2 : Int) (h : Hp), K4 l1 l2 h → Wx G X h0 (QI Q) h 4 [some (rV x0), some (iV l1), some (iV l2)] []) {l1 l2 : Int} {h : Hp} (hw : g_X23_liars_b46 x0 Q K4 l1 l2 h) : Wx G X h0 (QI Q) h 46 [some (rV x0), some (iV l1), some (iV l2)] [] := by
  refine Wx.start (fun EB => ?_)
  unfold g_X23_liars_b46 at hw
  obtain ⟨v46, hw⟩ := hw
  refine x_iincN HE (fun y46 => [some (rV x0), some (iV l1), some (iV y46)]) dX23_liars_46 rfl v46 (Nat.le_of_ble_eq_true rfl) (fun _ => rfl) (fun y46 ey46 => ?_)
  have hw := hw y46 ey46
  refine x_goto HE 4 dX23_liars_49 (by decide) ?_
  exact hK4 _ _ _ hw
def g_X23_liars_b36 (x0 : Int) (Q : Int → Hp → Prop) (K4 : Int → Int → Hp → Prop) (l1 l2 : Int) (h : Hp) : Prop :=
  g_X23_canBe x0 l2 (fun r38 m38 => Ext h m38 → (((r38 = 0) → (g_X23_liars_b46 x0 Q K4 l1 l2 m38)) ∧ ((r38 ≠ 0) → (g_X23_liars_b46 x0 Q K4 l2 l2 m38)))) h
theorem w_X23_liars_36 {G : GT} {X : ET} {h0 : Hp} {x0 : Int} (HE : XE G X cX23_liars 3 RX23 4 87 h0) (hr : XR X (some .int)) (f0 : Lay_X23 h0 x0) {Q : Int → Hp → Prop} {K4 : Int → Int → Hp → Prop} (hK4 : ∀ (l1 l2 : Int) (h : Hp), K4 l1 l2 h → Wx G X h0 (QI Q) h 4 [some (rV x0), some (iV l1), some (iV l2)] []) {l1 l2 : Int} {h : Hp} (hw : g_X23_liars_b36 x0 Q K4 l1 l2 h) : Wx G X h0 (QI Q) h 36 [some (rV x0), some (iV l1), some (iV l2)] [] := by
  refine Wx.start (fun EB => ?_)
  unfold g_X23_liars_b36 at hw
  refine x_aload_n HE 0 dX23_liars_36 rfl rfl ?_
  refine x_iload_n HE 2 dX23_liars_37 rfl rfl ?_
  refine x_callV HE dX23_liars_38 rfl (fun l => k_X23_canBe (f0.ext EB) l hw) (As := [iV l2]) (rest := []) rfl xc22 (Lay_X23.tag (f0.ext EB)) (lw_V q1653 q1654 q1655 q159 q1656) hy_X23_canBe rfl rfl (Nat.le_of_ble_eq_true rfl) (Nat.le_of_ble_eq_true rfl) (Nat.le_of_ble_eq_true rfl) (kkI (fun r38 m38 E38 hw => ?_))
  have hw := hw E38
  refine x_if_eq HE 46 dX23_liars_41 (by decide) (fun c41 => ?_) (fun c41 => ?_)
  · have hw := hw.1 c41
    exact w_X23_liars_46 HE hr f0 hK4 hw
  · have hw := hw.2 c41
    refine x_iload_n HE 2 dX23_liars_44 rfl rfl ?_
    refine x_istore_n HE 1 (lo' := [some (rV x0), some (iV l2), some (iV l2)]) dX23_liars_45 rfl (Nat.le_of_ble_eq_true rfl) rfl ?_
    exact w_X23_liars_46 HE hr f0 hK4 hw
def g_X23_liars_L4 (x0 : Int) (Q : Int → Hp → Prop) (K4 : Int → Int → Hp → Prop) (l1 l2 : Int) (h : Hp) : Prop :=
  (Lay_X7 h (hF h x0 0)) ∧ (g_J2_size ((hF h x0 0) + 3) (fun r13 m13 => Ext h m13 → ((((bShl 1 r13) ≤ l2) → (g_X23_liars_b52 x0 Q l1 m13)) ∧ ((l2 < (bShl 1 r13)) → (((l1 = (-1)) → (g_X23_liars_b36 x0 Q K4 l1 l2 m13)) ∧ ((l1 ≠ (-1)) → (g_X1_bits l2 (fun r26 m26 => Ext m13 m26 → (g_X1_bits l1 (fun r30 m30 => Ext m26 m30 → (((r30 ≤ r26) → (g_X23_liars_b46 x0 Q K4 l1 l2 m30)) ∧ ((r26 < r30) → (g_X23_liars_b36 x0 Q K4 l1 l2 m30)))) m26)) m13)))))) h)
theorem w_X23_liars_4 {G : GT} {X : ET} {h0 : Hp} {x0 : Int} (HE : XE G X cX23_liars 3 RX23 4 87 h0) (hr : XR X (some .int)) (f0 : Lay_X23 h0 x0) {Q : Int → Hp → Prop} {K4 : Int → Int → Hp → Prop} (hK4 : ∀ (l1 l2 : Int) (h : Hp), K4 l1 l2 h → Wx G X h0 (QI Q) h 4 [some (rV x0), some (iV l1), some (iV l2)] []) {l1 l2 : Int} {h : Hp} (hw : g_X23_liars_L4 x0 Q K4 l1 l2 h) : Wx G X h0 (QI Q) h 4 [some (rV x0), some (iV l1), some (iV l2)] [] := by
  refine Wx.start (fun EB => ?_)
  unfold g_X23_liars_L4 at hw
  refine x_iload_n HE 2 dX23_liars_4 rfl rfl ?_
  refine x_iconst HE dX23_liars_5 (by decide) ?_
  refine x_aload_n HE 0 dX23_liars_6 rfl rfl ?_
  refine x_gR HE dX23_liars_7 fd_X23_0 q1640 (Or.inl rfl) (Lay_X23.tag (f0.ext EB)) rfl ?_
  obtain ⟨v10, hw⟩ := hw
  refine x_gR HE dX23_liars_10 fd_X7_5 q329 (Or.inl rfl) (Lay_X7.tag v10) (Lay_X7_5 v10).1 ?_
  refine x_callV HE dX23_liars_13 rfl (fun l => k_J2_size ((Lay_X7_5 v10).2) l hw) (As := []) (rest := [iV 1, iV l2]) rfl xc32 ((Lay_X7_5 v10).2) (lw_V q1651 q708 q709 q128 q710) hy_J2_size rfl rfl (Nat.le_of_ble_eq_true rfl) (Nat.le_of_ble_eq_true rfl) (Nat.le_of_ble_eq_true rfl) (kkI (fun r13 m13 E13 hw => ?_))
  have hw := hw E13
  refine x_ishl HE dX23_liars_16 ?_
  refine x_ic_ge HE 52 dX23_liars_17 (by decide) (fun c17 => ?_) (fun c17 => ?_)
  · have hw := hw.1 c17
    refine Wx.mask [true, true, false] (lo2 := [some (rV x0), some (iV l1), none]) rfl ?_
    exact w_X23_liars_52 HE hr f0 hw
  · have hw := hw.2 c17
    refine x_iload_n HE 1 dX23_liars_20 rfl rfl ?_
    refine x_iconst HE dX23_liars_21 (by decide) ?_
    refine x_ic_eq HE 36 dX23_liars_22 (by decide) (fun c22 => ?_) (fun c22 => ?_)
    · have hw := hw.1 c22
      exact w_X23_liars_36 HE hr f0 hK4 hw
    · have hw := hw.2 c22
      refine x_iload_n HE 2 dX23_liars_25 rfl rfl ?_
      refine x_callSN HE dX23_liars_26 rfl (fun l => k_X1_bits  l hw) (As := [iV l2]) (rest := []) rfl (List.mem_of_getElem? (i := 24) rfl) q123 q1460 q1461 hy_X1_bits.2 rfl rfl (Nat.le_of_ble_eq_true rfl) (Nat.le_of_ble_eq_true rfl) (Nat.le_of_ble_eq_true rfl) (kkI (fun r26 m26 E26 hw => ?_))
      have hw := hw E26
      refine x_iload_n HE 1 dX23_liars_29 rfl rfl ?_
      refine x_callSN HE dX23_liars_30 rfl (fun l => k_X1_bits  l hw) (As := [iV l1]) (rest := [iV r26]) rfl (List.mem_of_getElem? (i := 24) rfl) q123 q1460 q1461 hy_X1_bits.2 rfl rfl (Nat.le_of_ble_eq_true rfl) (Nat.le_of_ble_eq_true rfl) (Nat.le_of_ble_eq_true rfl) (kkI (fun r30 m30 E30 hw => ?_))
      have hw := hw E30
      refine x_ic_ge HE 46 dX23_liars_33 (by decide) (fun c33 => ?_) (fun c33 => ?_)
      · have hw := hw.1 c33
        exact w_X23_liars_46 HE hr f0 hK4 hw
      · have hw := hw.2 c33
        exact w_X23_liars_36 HE hr f0 hK4 hw
theorem wl_X23_liars_4 {G : GT} {X : ET} {h0 : Hp} {x0 : Int} (HE : XE G X cX23_liars 3 RX23 4 87 h0) (hr : XR X (some .int)) (f0 : Lay_X23 h0 x0) {Q : Int → Hp → Prop} {l1 l2 : Int} {h : Hp} (hw : Lp2 (g_X23_liars_L4 x0 Q) l1 l2 h) : Wx G X h0 (QI Q) h 4 [some (rV x0), some (iV l1), some (iV l2)] [] := by
  obtain ⟨n, hw⟩ := hw
  induction n generalizing l1 l2 h with
  | zero => exact hw.elim
  | succ n ih => exact w_X23_liars_4 HE hr f0 (fun _ _ _ hk => ih hk) hw
def g_X23_liars (x0 : Int) (Q : Int → Hp → Prop) (h : Hp) : Prop :=
  Lp2 (g_X23_liars_L4 x0 Q) (-1) 0 h
theorem w_X23_liars_0 {G : GT} {X : ET} {h0 : Hp} {x0 : Int} (HE : XE G X cX23_liars 3 RX23 4 87 h0) (hr : XR X (some .int)) (f0 : Lay_X23 h0 x0) {Q : Int → Hp → Prop} {h : Hp} (hw : g_X23_liars x0 Q h) : Wx G X h0 (QI Q) h 0 [some (rV x0), none, none] [] := by
  refine Wx.start (fun EB => ?_)
  unfold g_X23_liars at hw
  refine x_iconst HE dX23_liars_0 (by decide) ?_
  refine x_istore_n HE 1 (lo' := [some (rV x0), some (iV (-1)), none]) dX23_liars_1 rfl (Nat.le_of_ble_eq_true rfl) rfl ?_
  refine x_iconst HE dX23_liars_2 (by decide) ?_
  refine x_istore_n HE 2 (lo' := [some (rV x0), some (iV (-1)), some (iV 0)]) dX23_liars_3 rfl (Nat.le_of_ble_eq_true rfl) rfl ?_
  exact wl_X23_liars_4 HE hr f0 hw
theorem k_X23_liars {G : GT} {x0 : Int} {Q : Int → Hp → Prop} {h : Hp} (f0 : Lay_X23 h x0) (l : Launch) (hw : g_X23_liars x0 Q h) : XM G l yX23_liars cX23_liars 3 (some .int) 4 87 [rV x0] (QI Q) h :=
  XM.of (by decide) (Nat.le_of_ble_eq_true rfl) (fun X HE hr hn => w_X23_liars_0 HE hr f0 hw)
def g_X23_isAhead (x0 x1 x2 : Int) (Q : Int → Hp → Prop) (h : Hp) : Prop :=
  ((0 : Int) ≤ x1 ∧ x1 < 10) ∧ (g_X1_holds (hA h (x0 + 1) x1) x2 (fun r7 m7 => Ext h m7 → ((r7 = 0 ∨ r7 = 1) ∧ Q r7 m7)) h)
theorem w_X23_isAhead_0 {G : GT} {X : ET} {h0 : Hp} {x0 x1 x2 : Int} (HE : XE G X cX23_isAhead 3 RX23 1 21 h0) (hr : XR X (some .boolean)) (f0 : Lay_X23 h0 x0) {Q : Int → Hp → Prop} {h : Hp} (hw : g_X23_isAhead x0 x1 x2 Q h) : Wx G X h0 (QI Q) h 0 [some (rV x0), some (iV x1), some (iV x2)] [] := by
  refine Wx.start (fun EB => ?_)
  unfold g_X23_isAhead at hw
  refine x_aload_n HE 0 dX23_isAhead_0 rfl rfl ?_
  refine x_gR HE dX23_isAhead_1 fd_X23_1 q1641 (Or.inl rfl) (Lay_X23.tag (f0.ext EB)) (Lay_X23_1 (f0.ext EB)).1 ?_
  refine x_iload_n HE 1 dX23_isAhead_4 rfl rfl ?_
  obtain ⟨i5, hw⟩ := hw
  refine x_iald HE dX23_isAhead_5 (t := 1) (by decide) ((Lay_X23_1 (f0.ext EB)).2.1) (ix_of ((Lay_X23_1 (f0.ext EB)).2.2) i5) rfl ?_
  refine x_iload_n HE 2 dX23_isAhead_6 rfl rfl ?_
  refine x_callSN HE dX23_isAhead_7 rfl (fun l => k_X1_holds  l hw) (As := [iV (hA h (x0 + 1) x1), iV x2]) (rest := []) rfl (List.mem_of_getElem? (i := 25) rfl) q123 q1570 q1571 hy_X1_holds.2 rfl rfl (Nat.le_of_ble_eq_true rfl) (Nat.le_of_ble_eq_true rfl) (Nat.le_of_ble_eq_true rfl) (kkI (fun r7 m7 E7 hw => ?_))
  have hw := hw E7
  exact x_zret HE hr dX23_isAhead_10 hw.1 hw.2
theorem k_X23_isAhead {G : GT} {x0 x1 x2 : Int} {Q : Int → Hp → Prop} {h : Hp} (f0 : Lay_X23 h x0) (l : Launch) (hw : g_X23_isAhead x0 x1 x2 Q h) : XM G l yX23_isAhead cX23_isAhead 3 (some .boolean) 1 21 [rV x0, iV x1, iV x2] (QI Q) h :=
  XM.of (by decide) (Nat.le_of_ble_eq_true rfl) (fun X HE hr hn => w_X23_isAhead_0 HE hr f0 hw)
def g_X2_number (x0 : Int) (Q : Int → Hp → Prop) (h : Hp) : Prop :=
  Q 0 h
theorem w_X2_number_0 {G : GT} {X : ET} {h0 : Hp} {x0 : Int} (HE : XE G X cX2_number 1 RX2 0 0 h0) (hr : XR X (some .int)) {Q : Int → Hp → Prop} {h : Hp} (hw : g_X2_number x0 Q h) : Wx G X h0 (QI Q) h 0 [some (rV x0)] [] := by
  refine Wx.start (fun EB => ?_)
  unfold g_X2_number at hw
  refine x_iconst HE dX2_number_0 (by decide) ?_
  exact x_iret HE hr dX2_number_1 hw
theorem k_X2_number {G : GT} {x0 : Int} {Q : Int → Hp → Prop} {h : Hp} (l : Launch) (hw : g_X2_number x0 Q h) : XM G l yX2_number cX2_number 1 (some .int) 0 0 [rV x0] (QI Q) h :=
  XM.of (by decide) (Nat.le_of_ble_eq_true rfl) (fun X HE hr hn => w_X2_number_0 HE hr  hw)
def g_X3_number (x0 : Int) (Q : Int → Hp → Prop) (h : Hp) : Prop :=
  Q 1 h
theorem w_X3_number_0 {G : GT} {X : ET} {h0 : Hp} {x0 : Int} (HE : XE G X cX3_number 1 RX3 0 0 h0) (hr : XR X (some .int)) {Q : Int → Hp → Prop} {h : Hp} (hw : g_X3_number x0 Q h) : Wx G X h0 (QI Q) h 0 [some (rV x0)] [] := by
  refine Wx.start (fun EB => ?_)
  unfold g_X3_number at hw
  refine x_iconst HE dX3_number_0 (by decide) ?_
  exact x_iret HE hr dX3_number_1 hw
theorem k_X3_number {G : GT} {x0 : Int} {Q : Int → Hp → Prop} {h : Hp} (l : Launch) (hw : g_X3_number x0 Q h) : XM G l yX3_number cX3_number 1 (some .int) 0 0 [rV x0] (QI Q) h :=
  XM.of (by decide) (Nat.le_of_ble_eq_true rfl) (fun X HE hr hn => w_X3_number_0 HE hr  hw)
def g_X18_number (x0 : Int) (Q : Int → Hp → Prop) (h : Hp) : Prop :=
  Q 2 h
theorem w_X18_number_0 {G : GT} {X : ET} {h0 : Hp} {x0 : Int} (HE : XE G X cX18_number 1 RX18 0 0 h0) (hr : XR X (some .int)) {Q : Int → Hp → Prop} {h : Hp} (hw : g_X18_number x0 Q h) : Wx G X h0 (QI Q) h 0 [some (rV x0)] [] := by
  refine Wx.start (fun EB => ?_)
  unfold g_X18_number at hw
  refine x_iconst HE dX18_number_0 (by decide) ?_
  exact x_iret HE hr dX18_number_1 hw
theorem k_X18_number {G : GT} {x0 : Int} {Q : Int → Hp → Prop} {h : Hp} (l : Launch) (hw : g_X18_number x0 Q h) : XM G l yX18_number cX18_number 1 (some .int) 0 0 [rV x0] (QI Q) h :=
  XM.of (by decide) (Nat.le_of_ble_eq_true rfl) (fun X HE hr hn => w_X18_number_0 HE hr  hw)
def g_X19_number (x0 : Int) (Q : Int → Hp → Prop) (h : Hp) : Prop :=
  Q 3 h
theorem w_X19_number_0 {G : GT} {X : ET} {h0 : Hp} {x0 : Int} (HE : XE G X cX19_number 1 RX19 0 0 h0) (hr : XR X (some .int)) {Q : Int → Hp → Prop} {h : Hp} (hw : g_X19_number x0 Q h) : Wx G X h0 (QI Q) h 0 [some (rV x0)] [] := by
  refine Wx.start (fun EB => ?_)
  unfold g_X19_number at hw
  refine x_iconst HE dX19_number_0 (by decide) ?_
  exact x_iret HE hr dX19_number_1 hw
theorem k_X19_number {G : GT} {x0 : Int} {Q : Int → Hp → Prop} {h : Hp} (l : Launch) (hw : g_X19_number x0 Q h) : XM G l yX19_number cX19_number 1 (some .int) 0 0 [rV x0] (QI Q) h :=
  XM.of (by decide) (Nat.le_of_ble_eq_true rfl) (fun X HE hr hn => w_X19_number_0 HE hr  hw)
