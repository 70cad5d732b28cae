/-! written by tools/mkgen2.py -/
set_option maxRecDepth 100000
def g_J0_init_at_J2 (x0 : Int) (Q : Hp → Prop) (h : Hp) : Prop :=
  Q h
theorem w_J0_init_at_J2_0 {G : GT} {X : ET} {h0 : Hp} {x0 : Int} (HE : XE G X cJ0_init 1 RJ0 1 20 h0) (hr : XR X none) (hn : XN X "<init>") (f0 : hT h0 x0 = 32) {Q : Hp → Prop} {h : Hp} (hw : g_J0_init_at_J2 x0 Q h) : Wx G X h0 (QV Q) h 0 [some (rV x0)] [] := by
  refine Wx.start (fun EB => ?_)
  unfold g_J0_init_at_J2 at hw
  refine x_aload_n HE 0 dJ0_init_0 rfl rfl ?_
  refine Wx.wf (fun wf1 => ?_)
  refine x_objInit HE dJ0_init_1 rfl q207 q170 q171 (tag_pos wf1 (EB.tag f0 (by decide)) (by decide)) (Nat.le_of_ble_eq_true rfl) (Nat.le_of_ble_eq_true rfl) (Nat.le_of_ble_eq_true rfl) ?_
  exact x_vret HE hr dJ0_init_4 hw
theorem k_J0_init_at_J2 {G : GT} {x0 : Int} {Q : Hp → Prop} {h : Hp} (f0 : hT h x0 = 32) (l : Launch) (hw : g_J0_init_at_J2 x0 Q h) : XM G l yJ0_init cJ0_init 1 none 1 20 [rV x0] (QV Q) h :=
  XM.of (by decide) (Nat.le_of_ble_eq_true rfl) (fun X HE hr hn => w_J0_init_at_J2_0 HE hr hn f0 hw)
def g_J1_init_at_J2 (x0 : Int) (Q : Hp → Prop) (h : Hp) : Prop :=
  g_J0_init_at_J2 x0 (fun m1 => Ext h m1 → (∀ m6 : Hp, m6 = setF m1 x0 0 0 → (Q m6))) h
theorem w_J1_init_at_J2_0 {G : GT} {X : ET} {h0 : Hp} {x0 : Int} (HE : XE G X cJ1_init 1 RJ1 2 40 h0) (hr : XR X none) (hn : XN X "<init>") (f0 : hT h0 x0 = 32) {Q : Hp → Prop} {h : Hp} (hw : g_J1_init_at_J2 x0 Q h) : Wx G X h0 (QV Q) h 0 [some (rV x0)] [] := by
  refine Wx.start (fun EB => ?_)
  unfold g_J1_init_at_J2 at hw
  refine x_aload_n HE 0 dJ1_init_0 rfl rfl ?_
  refine Wx.wf (fun wf1 => ?_)
  refine x_callI HE dJ1_init_1 rfl (fun l => k_J0_init_at_J2 (EB.tag f0 (by decide)) l hw) (As := []) (rest := []) rfl (tag_pos wf1 (EB.tag f0 (by decide)) (by decide)) q204 q126 q205 q206 rfl hy_J0_init.2 rfl rfl (Nat.le_of_ble_eq_true rfl) (Nat.le_of_ble_eq_true rfl) (Nat.le_of_ble_eq_true rfl) (kkV (fun m1 E1 hw => ?_))
  have hw := hw E1
  refine x_aload_n HE 0 dJ1_init_4 rfl rfl ?_
  refine x_iconst HE dJ1_init_5 (by decide) ?_
  refine x_pI HE dJ1_init_6 fd_J2_0 q212 (Or.inl rfl) (Or.inl rfl) (nf_int _) ((EB.tr E1).tag f0 (by decide)) (nro (by decide)) (Or.inl nf_J2_0) (fun m6 em6 E6 => ?_)
  have hw := hw m6 em6
  exact x_vret HE hr dJ1_init_9 hw
theorem k_J1_init_at_J2 {G : GT} {x0 : Int} {Q : Hp → Prop} {h : Hp} (f0 : hT h x0 = 32) (l : Launch) (hw : g_J1_init_at_J2 x0 Q h) : XM G l yJ1_init cJ1_init 1 none 2 40 [rV x0] (QV Q) h :=
  XM.of (by decide) (Nat.le_of_ble_eq_true rfl) (fun X HE hr hn => w_J1_init_at_J2_0 HE hr hn f0 hw)
def g_J2_init (x0 : Int) (Q : Hp → Prop) (h : Hp) : Prop :=
  g_J1_init_at_J2 x0 (fun m1 => Ext h m1 → ((0 ≤ hF m1 0 32) ∧ (∀ m8 : Hp, m8 = setF m1 x0 1 (hF m1 0 32) → (Q m8)))) h
theorem w_J2_init_0 {G : GT} {X : ET} {h0 : Hp} {x0 : Int} (HE : XE G X cJ2_init 1 RJ2 3 60 h0) (hr : XR X none) (hn : XN X "<init>") (f0 : hT h0 x0 = 32) {Q : Hp → Prop} {h : Hp} (hw : g_J2_init x0 Q h) : Wx G X h0 (QV Q) h 0 [some (rV x0)] [] := by
  refine Wx.start (fun EB => ?_)
  unfold g_J2_init at hw
  refine x_aload_n HE 0 dJ2_init_0 rfl rfl ?_
  refine Wx.wf (fun wf1 => ?_)
  refine x_callI HE dJ2_init_1 rfl (fun l => k_J1_init_at_J2 (EB.tag f0 (by decide)) l hw) (As := []) (rest := []) rfl (tag_pos wf1 (EB.tag f0 (by decide)) (by decide)) q201 q127 q202 q203 rfl hy_J1_init.2 rfl rfl (Nat.le_of_ble_eq_true rfl) (Nat.le_of_ble_eq_true rfl) (Nat.le_of_ble_eq_true rfl) (kkV (fun m1 E1 hw => ?_))
  have hw := hw E1
  refine x_aload_n HE 0 dJ2_init_4 rfl rfl ?_
  obtain ⟨v5, hw⟩ := hw
  refine x_getE HE dJ2_init_5 q208 v5 ?_
  refine x_pR HE dJ2_init_8 fd_J2_1 q210 (Or.inl rfl) (Or.inl rfl) (nf_arr _ _) ((EB.tr E1).tag f0 (by decide)) (nro (by decide)) (Or.inl nf_J2_1) (fun m8 em8 E8 => ?_)
  have hw := hw m8 em8
  exact x_vret HE hr dJ2_init_11 hw
theorem k_J2_init {G : GT} {x0 : Int} {Q : Hp → Prop} {h : Hp} (f0 : hT h x0 = 32) (l : Launch) (hw : g_J2_init x0 Q h) : XM G l yJ2_init cJ2_init 1 none 3 60 [rV x0] (QV Q) h :=
  XM.of (by decide) (Nat.le_of_ble_eq_true rfl) (fun X HE hr hn => w_J2_init_0 HE hr hn f0 hw)
def g_J3_init_at_J4 (x0 x1 : Int) (Q : Hp → Prop) (h : Hp) : Prop :=
  (((1 : Int) = 0) → (False)) ∧ (((1 : Int) ≠ 0) → ((0 ≤ x1 ∧ x1 ≤ 67108864) ∧ ((capOK h x1) ∧ (∀ (a12 : Int) (m12 : Hp), a12 = hN h → m12 = alloc h 2 x1 x1 → WFa h → (∀ m14 : Hp, m14 = setF m12 x0 0 a12 → (∀ m19 : Hp, m19 = setF m14 x0 1 0 → (Q m19)))))))
theorem w_J3_init_at_J4_0 {G : GT} {X : ET} {h0 : Hp} {x0 x1 : Int} (HE : XE G X cJ3_init 2 RJ3 1 20 h0) (hr : XR X none) (hn : XN X "<init>") (f0 : hT h0 x0 = 34) {Q : Hp → Prop} {h : Hp} (hw : g_J3_init_at_J4 x0 x1 Q h) : Wx G X h0 (QV Q) h 0 [some (rV x0), some (iV x1)] [] := by
  refine Wx.start (fun EB => ?_)
  unfold g_J3_init_at_J4 at hw
  refine x_aload_n HE 0 dJ3_init_0 rfl rfl ?_
  refine Wx.wf (fun wf1 => ?_)
  refine x_objInit HE dJ3_init_1 rfl q392 q170 q171 (tag_pos wf1 (EB.tag f0 (by decide)) (by decide)) (Nat.le_of_ble_eq_true rfl) (Nat.le_of_ble_eq_true rfl) (Nat.le_of_ble_eq_true rfl) ?_
  refine x_getCS HE dJ3_init_4 q393 ?_
  refine x_if_eq HE 25 dJ3_init_7 (by decide) (fun c7 => ?_) (fun c7 => ?_)
  · have hw := hw.1 c7
    refine x_aload_n HE 0 dJ3_init_25 rfl rfl ?_
    refine x_iload_n HE 1 dJ3_init_26 rfl rfl ?_
    exact hw.elim
  · have hw := hw.2 c7
    refine x_aload_n HE 0 dJ3_init_10 rfl rfl ?_
    refine x_iload_n HE 1 dJ3_init_11 rfl rfl ?_
    obtain ⟨b12, hw⟩ := hw
    obtain ⟨v12, hw⟩ := hw
    refine x_newBN HE dJ3_init_12 q187 b12 v12 (fun a12 m12 ea12 em12 E12 w12 => ?_)
    have hw := hw a12 m12 ea12 em12 w12
    have t12 := alloc_tag ea12 em12
    have l12 := alloc_len ea12 em12
    refine x_pR HE dJ3_init_14 fd_J4_0 q402 (Or.inl rfl) (Or.inl rfl) (nf_arr _ _) ((EB.tr E12).tag f0 (by decide)) (nro (by decide)) (Or.inl nf_J4_0) (fun m14 em14 E14 => ?_)
    have hw := hw m14 em14
    refine x_aload_n HE 0 dJ3_init_17 rfl rfl ?_
    refine x_iconst HE dJ3_init_18 (by decide) ?_
    refine x_pI HE dJ3_init_19 fd_J4_1 q403 (Or.inl rfl) (Or.inl rfl) (nf_byte (by decide)) ((EB.tr (E12.tr E14)).tag f0 (by decide)) (nro (by decide)) (Or.inl nf_J4_1) (fun m19 em19 E19 => ?_)
    have hw := hw m19 em19
    refine x_goto HE 38 dJ3_init_22 (by decide) ?_
    exact x_vret HE hr dJ3_init_38 hw
theorem k_J3_init_at_J4 {G : GT} {x0 x1 : Int} {Q : Hp → Prop} {h : Hp} (f0 : hT h x0 = 34) (l : Launch) (hw : g_J3_init_at_J4 x0 x1 Q h) : XM G l yJ3_init cJ3_init 2 none 1 20 [rV x0, iV x1] (QV Q) h :=
  XM.of (by decide) (Nat.le_of_ble_eq_true rfl) (fun X HE hr hn => w_J3_init_at_J4_0 HE hr hn f0 hw)
def g_J4_init (x0 : Int) (Q : Hp → Prop) (h : Hp) : Prop :=
  g_J3_init_at_J4 x0 16 (fun m3 => Ext h m3 → (Q m3)) h
theorem w_J4_init_0 {G : GT} {X : ET} {h0 : Hp} {x0 : Int} (HE : XE G X cJ4_init 1 RJ4 2 41 h0) (hr : XR X none) (hn : XN X "<init>") (f0 : hT h0 x0 = 34) {Q : Hp → Prop} {h : Hp} (hw : g_J4_init x0 Q h) : Wx G X h0 (QV Q) h 0 [some (rV x0)] [] := by
  refine Wx.start (fun EB => ?_)
  unfold g_J4_init at hw
  refine x_aload_n HE 0 dJ4_init_0 rfl rfl ?_
  refine x_bipush HE dJ4_init_1 (by decide) ?_
  refine Wx.wf (fun wf3 => ?_)
  refine x_callI HE dJ4_init_3 rfl (fun l => k_J3_init_at_J4 (EB.tag f0 (by decide)) l hw) (As := [iV 16]) (rest := []) rfl (tag_pos wf3 (EB.tag f0 (by decide)) (by decide)) q389 q134 q390 q391 rfl hy_J3_init.2 rfl rfl (Nat.le_of_ble_eq_true rfl) (Nat.le_of_ble_eq_true rfl) (Nat.le_of_ble_eq_true rfl) (kkV (fun m3 E3 hw => ?_))
  have hw := hw E3
  exact x_vret HE hr dJ4_init_6 hw
theorem k_J4_init {G : GT} {x0 : Int} {Q : Hp → Prop} {h : Hp} (f0 : hT h x0 = 34) (l : Launch) (hw : g_J4_init x0 Q h) : XM G l yJ4_init cJ4_init 1 none 2 41 [rV x0] (QV Q) h :=
  XM.of (by decide) (Nat.le_of_ble_eq_true rfl) (fun X HE hr hn => w_J4_init_0 HE hr hn f0 hw)
def g_J3_ensureCapacityInternal_at_J4 (x0 x1 : Int) (Q : Hp → Prop) (h : Hp) : Prop :=
  (Byts h (hF h x0 0)) ∧ (∀ y10 : Int, y10 = (bShr (hL h (hF h x0 0)) (hF h x0 1)) → ((i32 (x1 - y10)) ∧ ((((x1 - y10) ≤ 0) → (Q h)) ∧ ((0 < (x1 - y10)) → (False)))))
theorem w_J3_ensureCapacityInternal_at_J4_0 {G : GT} {X : ET} {h0 : Hp} {x0 x1 : Int} (HE : XE G X cJ3_ensureCapacityInternal 3 RJ3 0 0 h0) (hr : XR X none) (f0 : hT h0 x0 = 34) {Q : Hp → Prop} {h : Hp} (hw : g_J3_ensureCapacityInternal_at_J4 x0 x1 Q h) : Wx G X h0 (QV Q) h 0 [some (rV x0), some (iV x1), none] [] := by
  refine Wx.start (fun EB => ?_)
  unfold g_J3_ensureCapacityInternal_at_J4 at hw
  refine x_aload_n HE 0 dJ3_ensureCapacityInternal_0 rfl rfl ?_
  refine x_gR HE dJ3_ensureCapacityInternal_1 fd_J4_0 q402 (Or.inl rfl) (EB.tag f0 (by decide)) rfl ?_
  obtain ⟨v4, hw⟩ := hw
  refine x_alenB HE dJ3_ensureCapacityInternal_4 v4 rfl ?_
  refine x_aload_n HE 0 dJ3_ensureCapacityInternal_5 rfl rfl ?_
  refine x_gI HE dJ3_ensureCapacityInternal_6 fd_J4_1 q403 (Or.inl rfl) (EB.tag f0 (by decide)) rfl ?_
  refine x_ishr HE dJ3_ensureCapacityInternal_9 ?_
  refine x_istore_nN HE 2 (fun y10 => [some (rV x0), some (iV x1), some (iV y10)]) dJ3_ensureCapacityInternal_10 rfl (Nat.le_of_ble_eq_true rfl) (fun _ => rfl) (fun y10 ey10 => ?_)
  have hw := hw y10 ey10
  refine x_iload_n HE 1 dJ3_ensureCapacityInternal_11 rfl rfl ?_
  refine x_iload_n HE 2 dJ3_ensureCapacityInternal_12 rfl rfl ?_
  obtain ⟨v13, hw⟩ := hw
  refine x_isub HE dJ3_ensureCapacityInternal_13 v13 ?_
  refine x_if_le HE 38 dJ3_ensureCapacityInternal_14 (by decide) (fun c14 => ?_) (fun c14 => ?_)
  · have hw := hw.1 c14
    exact x_vret HE hr dJ3_ensureCapacityInternal_38 hw
  · have hw := hw.2 c14
    refine x_aload_n HE 0 dJ3_ensureCapacityInternal_17 rfl rfl ?_
    refine x_aload_n HE 0 dJ3_ensureCapacityInternal_18 rfl rfl ?_
    refine x_gR HE dJ3_ensureCapacityInternal_19 fd_J4_0 q402 (Or.inl rfl) (EB.tag f0 (by decide)) rfl ?_
    refine x_aload_n HE 0 dJ3_ensureCapacityInternal_22 rfl rfl ?_
    refine x_iload_n HE 1 dJ3_ensureCapacityInternal_23 rfl rfl ?_
    exact hw.elim
theorem k_J3_ensureCapacityInternal_at_J4 {G : GT} {x0 x1 : Int} {Q : Hp → Prop} {h : Hp} (f0 : hT h x0 = 34) (l : Launch) (hw : g_J3_ensureCapacityInternal_at_J4 x0 x1 Q h) : XM G l yJ3_ensureCapacityInternal cJ3_ensureCapacityInternal 3 none 0 0 [rV x0, iV x1] (QV Q) h :=
  XM.of (by decide) (Nat.le_of_ble_eq_true rfl) (fun X HE hr hn => w_J3_ensureCapacityInternal_at_J4_0 HE hr f0 hw)
def g_J3_isLatin1_at_J4_b18 (x0 : Int) (Q : Int → Hp → Prop) (s0 : Int) (h : Hp) : Prop :=
  (s0 = 0 ∨ s0 = 1) ∧ Q s0 h
theorem w_J3_isLatin1_at_J4_18 {G : GT} {X : ET} {h0 : Hp} {x0 : Int} (HE : XE G X cJ3_isLatin1 1 RJ3 0 0 h0) (hr : XR X (some .boolean)) (f0 : hT h0 x0 = 34) {Q : Int → Hp → Prop} {s0 : Int} {h : Hp} (hw : g_J3_isLatin1_at_J4_b18 x0 Q s0 h) : Wx G X h0 (QI Q) h 18 [some (rV x0)] [iV s0] := by
  refine Wx.start (fun EB => ?_)
  unfold g_J3_isLatin1_at_J4_b18 at hw
  exact x_zret HE hr dJ3_isLatin1_18 hw.1 hw.2
def g_J3_isLatin1_at_J4_b17 (x0 : Int) (Q : Int → Hp → Prop) (h : Hp) : Prop :=
  g_J3_isLatin1_at_J4_b18 x0 Q 0 h
theorem w_J3_isLatin1_at_J4_17 {G : GT} {X : ET} {h0 : Hp} {x0 : Int} (HE : XE G X cJ3_isLatin1 1 RJ3 0 0 h0) (hr : XR X (some .boolean)) (f0 : hT h0 x0 = 34) {Q : Int → Hp → Prop} {h : Hp} (hw : g_J3_isLatin1_at_J4_b17 x0 Q  h) : Wx G X h0 (QI Q) h 17 [some (rV x0)] [] := by
  refine Wx.start (fun EB => ?_)
  unfold g_J3_isLatin1_at_J4_b17 at hw
  refine x_iconst HE dJ3_isLatin1_17 (by decide) ?_
  exact w_J3_isLatin1_at_J4_18 HE hr f0 hw
def g_J3_isLatin1_at_J4 (x0 : Int) (Q : Int → Hp → Prop) (h : Hp) : Prop :=
  (((1 : Int) = 0) → (g_J3_isLatin1_at_J4_b17 x0 Q h)) ∧ (((1 : Int) ≠ 0) → ((((hF h x0 1) ≠ 0) → (g_J3_isLatin1_at_J4_b17 x0 Q h)) ∧ (((hF h x0 1) = 0) → (g_J3_isLatin1_at_J4_b18 x0 Q 1 h))))
theorem w_J3_isLatin1_at_J4_0 {G : GT} {X : ET} {h0 : Hp} {x0 : Int} (HE : XE G X cJ3_isLatin1 1 RJ3 0 0 h0) (hr : XR X (some .boolean)) (f0 : hT h0 x0 = 34) {Q : Int → Hp → Prop} {h : Hp} (hw : g_J3_isLatin1_at_J4 x0 Q h) : Wx G X h0 (QI Q) h 0 [some (rV x0)] [] := by
  refine Wx.start (fun EB => ?_)
  unfold g_J3_isLatin1_at_J4 at hw
  refine x_getCS HE dJ3_isLatin1_0 q393 ?_
  refine x_if_eq HE 17 dJ3_isLatin1_3 (by decide) (fun c3 => ?_) (fun c3 => ?_)
  · have hw := hw.1 c3
    exact w_J3_isLatin1_at_J4_17 HE hr f0 hw
  · have hw := hw.2 c3
    refine x_aload_n HE 0 dJ3_isLatin1_6 rfl rfl ?_
    refine x_gI HE dJ3_isLatin1_7 fd_J4_1 q403 (Or.inl rfl) (EB.tag f0 (by decide)) rfl ?_
    refine x_if_ne HE 17 dJ3_isLatin1_10 (by decide) (fun c10 => ?_) (fun c10 => ?_)
    · have hw := hw.1 c10
      exact w_J3_isLatin1_at_J4_17 HE hr f0 hw
    · have hw := hw.2 c10
      refine x_iconst HE dJ3_isLatin1_13 (by decide) ?_
      refine x_goto HE 18 dJ3_isLatin1_14 (by decide) ?_
      exact w_J3_isLatin1_at_J4_18 HE hr f0 hw
theorem k_J3_isLatin1_at_J4 {G : GT} {x0 : Int} {Q : Int → Hp → Prop} {h : Hp} (f0 : hT h x0 = 34) (l : Launch) (hw : g_J3_isLatin1_at_J4 x0 Q h) : XM G l yJ3_isLatin1 cJ3_isLatin1 1 (some .boolean) 0 0 [rV x0] (QI Q) h :=
  XM.of (by decide) (Nat.le_of_ble_eq_true rfl) (fun X HE hr hn => w_J3_isLatin1_at_J4_0 HE hr f0 hw)
def g_J10_canEncode_b12 (x0 : Int) (Q : Int → Hp → Prop) (s0 : Int) (h : Hp) : Prop :=
  (s0 = 0 ∨ s0 = 1) ∧ Q s0 h
theorem w_J10_canEncode_12 {G : GT} {X : ET} {h0 : Hp} {x0 : Int} (HE : XE G X cJ10_canEncode 1 RJ10 0 0 h0) (hr : XR X (some .boolean)) {Q : Int → Hp → Prop} {s0 : Int} {h : Hp} (hw : g_J10_canEncode_b12 x0 Q s0 h) : Wx G X h0 (QI Q) h 12 [some (iV x0)] [iV s0] := by
  refine Wx.start (fun EB => ?_)
  unfold g_J10_canEncode_b12 at hw
  exact x_zret HE hr dJ10_canEncode_12 hw.1 hw.2
def g_J10_canEncode (x0 : Int) (Q : Int → Hp → Prop) (h : Hp) : Prop :=
  ((255 < x0) → (g_J10_canEncode_b12 x0 Q 0 h)) ∧ ((x0 ≤ 255) → (g_J10_canEncode_b12 x0 Q 1 h))
theorem w_J10_canEncode_0 {G : GT} {X : ET} {h0 : Hp} {x0 : Int} (HE : XE G X cJ10_canEncode 1 RJ10 0 0 h0) (hr : XR X (some .boolean)) {Q : Int → Hp → Prop} {h : Hp} (hw : g_J10_canEncode x0 Q h) : Wx G X h0 (QI Q) h 0 [some (iV x0)] [] := by
  refine Wx.start (fun EB => ?_)
  unfold g_J10_canEncode at hw
  refine x_iload_n HE 0 dJ10_canEncode_0 rfl rfl ?_
  refine x_sipush HE dJ10_canEncode_1 (by decide) ?_
  refine x_ic_gt HE 11 dJ10_canEncode_4 (by decide) (fun c4 => ?_) (fun c4 => ?_)
  · have hw := hw.1 c4
    refine x_iconst HE dJ10_canEncode_11 (by decide) ?_
    exact w_J10_canEncode_12 HE hr hw
  · have hw := hw.2 c4
    refine x_iconst HE dJ10_canEncode_7 (by decide) ?_
    refine x_goto HE 12 dJ10_canEncode_8 (by decide) ?_
    exact w_J10_canEncode_12 HE hr hw
theorem k_J10_canEncode {G : GT} {x0 : Int} {Q : Int → Hp → Prop} {h : Hp} (l : Launch) (hw : g_J10_canEncode x0 Q h) : XM G l yJ10_canEncode cJ10_canEncode 1 (some .boolean) 0 0 [iV x0] (QI Q) h :=
  XM.of (by decide) (Nat.le_of_ble_eq_true rfl) (fun X HE hr hn => w_J10_canEncode_0 HE hr  hw)
def g_J3_append_at_J4_b45 (x0 x1 : Int) (Q : Int → Hp → Prop) (h : Hp) : Prop :=
  g_J3_isLatin1_at_J4 x0 (fun r46 m46 => Ext h m46 → (((r46 = 0) → ((i32 ((hF m46 x0 3) + 1)) ∧ (∀ m68 : Hp, m68 = setF m46 x0 3 ((hF m46 x0 3) + 1) → (False)))) ∧ ((r46 ≠ 0) → (False)))) h
theorem w_J3_append_at_J4_45 {G : GT} {X : ET} {h0 : Hp} {x0 x1 : Int} (HE : XE G X cJ3_append 2 RJ3 1 22 h0) (hr : XR X (some (.object "java/lang/AbstractStringBuilde\x72"))) (f0 : hT h0 x0 = 34) {Q : Int → Hp → Prop} {h : Hp} (hw : g_J3_append_at_J4_b45 x0 x1 Q  h) : Wx G X h0 (QR Q) h 45 [some (rV x0), some (iV x1)] [] := by
  refine Wx.start (fun EB => ?_)
  unfold g_J3_append_at_J4_b45 at hw
  refine x_aload_n HE 0 dJ3_append_45 rfl rfl ?_
  refine x_callU (C := RJ4) HE dJ3_append_46 rfl (fun l => k_J3_isLatin1_at_J4 (EB.tag f0 (by decide)) l hw) (As := []) (rest := []) rfl xc34 (EB.tag f0 (by decide)) (fun ht hK hR => va_cwU 0 ht (lw_app (fun w hw2 => xw5 q457 q459 q460 q458 q134 w hw2) (lw_meth q461)) rfl rfl rfl rfl hy_J3_isLatin1.2 hR) rfl rfl (Nat.le_of_ble_eq_true rfl) (Nat.le_of_ble_eq_true rfl) (Nat.le_of_ble_eq_true rfl) (kkI (fun r46 m46 E46 hw => ?_))
  have hw := hw E46
  refine x_if_eq HE 56 dJ3_append_49 (by decide) (fun c49 => ?_) (fun c49 => ?_)
  · have hw := hw.1 c49
    refine x_aload_n HE 0 dJ3_append_56 rfl rfl ?_
    refine x_gR HE dJ3_append_57 fd_J4_0 q402 (Or.inl rfl) ((EB.tr E46).tag f0 (by decide)) rfl ?_
    refine x_aload_n HE 0 dJ3_append_60 rfl rfl ?_
    refine x_dup HE dJ3_append_61 (fun o => o) ?_
    refine x_gI HE dJ3_append_62 fd_J4_3 q405 (Or.inl rfl) ((EB.tr E46).tag f0 (by decide)) rfl ?_
    refine x_dup_x1 HE dJ3_append_65 (fun o => o) (fun o => o) ?_
    refine x_iconst HE dJ3_append_66 (by decide) ?_
    obtain ⟨v67, hw⟩ := hw
    refine x_iadd HE dJ3_append_67 v67 ?_
    refine x_pI HE dJ3_append_68 fd_J4_3 q405 (Or.inl rfl) (Or.inl rfl) (nf_int _) ((EB.tr E46).tag f0 (by decide)) (nro (by decide)) (Or.inl nf_J4_3) (fun m68 em68 E68 => ?_)
    have hw := hw m68 em68
    refine x_iload_n HE 1 dJ3_append_71 rfl rfl ?_
    exact hw.elim
  · have hw := hw.2 c49
    refine x_aload_n HE 0 dJ3_append_52 rfl rfl ?_
    exact hw.elim
def g_J3_append_at_J4 (x0 x1 : Int) (Q : Int → Hp → Prop) (h : Hp) : Prop :=
  (i32 ((hF h x0 3) + 1)) ∧ (g_J3_ensureCapacityInternal_at_J4 x0 ((hF h x0 3) + 1) (fun m7 => Ext h m7 → (g_J3_isLatin1_at_J4 x0 (fun r11 m11 => Ext m7 m11 → (((r11 = 0) → (g_J3_append_at_J4_b45 x0 x1 Q m11)) ∧ ((r11 ≠ 0) → (g_J10_canEncode x1 (fun r18 m18 => Ext m11 m18 → (((r18 = 0) → (g_J3_append_at_J4_b45 x0 x1 Q m18)) ∧ ((r18 ≠ 0) → ((i32 ((hF m18 x0 3) + 1)) ∧ (∀ m36 : Hp, m36 = setF m18 x0 3 ((hF m18 x0 3) + 1) → ((hT m36 (hF m18 x0 0) = 2) ∧ (((0 : Int) ≤ (hF m18 x0 3) ∧ (hF m18 x0 3) < hL m36 (hF m18 x0 0)) ∧ ((-128 ≤ (bByte x1) ∧ (bByte x1) ≤ 127) ∧ (∀ m41 : Hp, m41 = setA m36 (hF m18 x0 0) (hF m18 x0 3) (bByte x1) → (Q x0 m41)))))))))) m11)))) m7)) h)
theorem w_J3_append_at_J4_0 {G : GT} {X : ET} {h0 : Hp} {x0 x1 : Int} (HE : XE G X cJ3_append 2 RJ3 1 22 h0) (hr : XR X (some (.object "java/lang/AbstractStringBuilde\x72"))) (f0 : hT h0 x0 = 34) {Q : Int → Hp → Prop} {h : Hp} (hw : g_J3_append_at_J4 x0 x1 Q h) : Wx G X h0 (QR Q) h 0 [some (rV x0), some (iV x1)] [] := by
  refine Wx.start (fun EB => ?_)
  unfold g_J3_append_at_J4 at hw
  refine x_aload_n HE 0 dJ3_append_0 rfl rfl ?_
  refine x_aload_n HE 0 dJ3_append_1 rfl rfl ?_
  refine x_gI HE dJ3_append_2 fd_J4_3 q405 (Or.inl rfl) (EB.tag f0 (by decide)) rfl ?_
  refine x_iconst HE dJ3_append_5 (by decide) ?_
  obtain ⟨v6, hw⟩ := hw
  refine x_iadd HE dJ3_append_6 v6 ?_
  refine x_callU (C := RJ4) HE dJ3_append_7 rfl (fun l => k_J3_ensureCapacityInternal_at_J4 (EB.tag f0 (by decide)) l hw) (As := [iV ((hF h x0 3) + 1)]) (rest := []) rfl xc34 (EB.tag f0 (by decide)) (fun ht hK hR => va_cwUP 1 ht q422 q2502 (va_Nw.use rfl (hK.2.2.1 xSelP (List.mem_append_right _ List.mem_cons_self))) q424 q134 q425 rfl hy_J3_ensureCapacityInternal.2 hR) rfl rfl (Nat.le_of_ble_eq_true rfl) (Nat.le_of_ble_eq_true rfl) (Nat.le_of_ble_eq_true rfl) (kkV (fun m7 E7 hw => ?_))
  have hw := hw E7
  refine x_aload_n HE 0 dJ3_append_10 rfl rfl ?_
  refine x_callU (C := RJ4) HE dJ3_append_11 rfl (fun l => k_J3_isLatin1_at_J4 ((EB.tr E7).tag f0 (by decide)) l hw) (As := []) (rest := []) rfl xc34 ((EB.tr E7).tag f0 (by decide)) (fun ht hK hR => va_cwU 0 ht (lw_app (fun w hw2 => xw5 q457 q459 q460 q458 q134 w hw2) (lw_meth q461)) rfl rfl rfl rfl hy_J3_isLatin1.2 hR) rfl rfl (Nat.le_of_ble_eq_true rfl) (Nat.le_of_ble_eq_true rfl) (Nat.le_of_ble_eq_true rfl) (kkI (fun r11 m11 E11 hw => ?_))
  have hw := hw E11
  refine x_if_eq HE 45 dJ3_append_14 (by decide) (fun c14 => ?_) (fun c14 => ?_)
  · have hw := hw.1 c14
    exact w_J3_append_at_J4_45 HE hr f0 hw
  · have hw := hw.2 c14
    refine x_iload_n HE 1 dJ3_append_17 rfl rfl ?_
    refine x_callS HE dJ3_append_18 rfl (fun l => k_J10_canEncode  l hw) (As := [iV x1]) (rest := []) rfl (lw_S q462 q463 q142 q464) hy_J10_canEncode.2 rfl rfl (Nat.le_of_ble_eq_true rfl) (Nat.le_of_ble_eq_true rfl) (Nat.le_of_ble_eq_true rfl) (kkI (fun r18 m18 E18 hw => ?_))
    have hw := hw E18
    refine x_if_eq HE 45 dJ3_append_21 (by decide) (fun c21 => ?_) (fun c21 => ?_)
    · have hw := hw.1 c21
      exact w_J3_append_at_J4_45 HE hr f0 hw
    · have hw := hw.2 c21
      refine x_aload_n HE 0 dJ3_append_24 rfl rfl ?_
      refine x_gR HE dJ3_append_25 fd_J4_0 q402 (Or.inl rfl) ((EB.tr (E7.tr (E11.tr E18))).tag f0 (by decide)) rfl ?_
      refine x_aload_n HE 0 dJ3_append_28 rfl rfl ?_
      refine x_dup HE dJ3_append_29 (fun o => o) ?_
      refine x_gI HE dJ3_append_30 fd_J4_3 q405 (Or.inl rfl) ((EB.tr (E7.tr (E11.tr E18))).tag f0 (by decide)) rfl ?_
      refine x_dup_x1 HE dJ3_append_33 (fun o => o) (fun o => o) ?_
      refine x_iconst HE dJ3_append_34 (by decide) ?_
      obtain ⟨v35, hw⟩ := hw
      refine x_iadd HE dJ3_append_35 v35 ?_
      refine x_pI HE dJ3_append_36 fd_J4_3 q405 (Or.inl rfl) (Or.inl rfl) (nf_int _) ((EB.tr (E7.tr (E11.tr E18))).tag f0 (by decide)) (nro (by decide)) (Or.inl nf_J4_3) (fun m36 em36 E36 => ?_)
      have hw := hw m36 em36
      refine x_iload_n HE 1 dJ3_append_39 rfl rfl ?_
      refine x_i2b HE dJ3_append_40 ?_
      obtain ⟨v41, hw⟩ := hw
      obtain ⟨i41, hw⟩ := hw
      obtain ⟨b41, hw⟩ := hw
      refine x_bast HE dJ3_append_41 v41 i41 b41 (fun m41 em41 E41 => ?_)
      have hw := hw m41 em41
      refine x_goto HE 75 dJ3_append_42 (by decide) ?_
      refine x_aload_n HE 0 dJ3_append_75 rfl rfl ?_
      exact x_aret HE hr (Or.inl ⟨_, rfl⟩) dJ3_append_76 hw
theorem k_J3_append_at_J4 {G : GT} {x0 x1 : Int} {Q : Int → Hp → Prop} {h : Hp} (f0 : hT h x0 = 34) (l : Launch) (hw : g_J3_append_at_J4 x0 x1 Q h) : XM G l yJ3_append cJ3_append 2 (some (.object "java/lang/AbstractStringBuilde\x72")) 1 22 [rV x0, iV x1] (QR Q) h :=
  XM.of (by decide) (Nat.le_of_ble_eq_true rfl) (fun X HE hr hn => w_J3_append_at_J4_0 HE hr f0 hw)
def g_J4_append (x0 x1 : Int) (Q : Int → Hp → Prop) (h : Hp) : Prop :=
  g_J3_append_at_J4 x0 x1 (fun r2 m2 => Ext h m2 → (Q x0 m2)) h
theorem w_J4_append_0 {G : GT} {X : ET} {h0 : Hp} {x0 x1 : Int} (HE : XE G X cJ4_append 2 RJ4 2 43 h0) (hr : XR X (some (.object "java/lang/StringBuilde\x72"))) (f0 : hT h0 x0 = 34) {Q : Int → Hp → Prop} {h : Hp} (hw : g_J4_append x0 x1 Q h) : Wx G X h0 (QR Q) h 0 [some (rV x0), some (iV x1)] [] := by
  refine Wx.start (fun EB => ?_)
  unfold g_J4_append at hw
  refine x_aload_n HE 0 dJ4_append_0 rfl rfl ?_
  refine x_iload_n HE 1 dJ4_append_1 rfl rfl ?_
  refine x_callSU HE dJ4_append_2 rfl (fun l => k_J3_append_at_J4 (EB.tag f0 (by decide)) l hw) (As := [iV x1]) (rest := []) rfl xc34 (EB.tag f0 (by decide)) (lw_app (fun w hw2 => xw5 q419 q2501 q414 q420 q134 w hw2) (lw_meth q421)) ⟨by decide, hy_J3_append.2.2.2⟩ rfl rfl (Nat.le_of_ble_eq_true rfl) (Nat.le_of_ble_eq_true rfl) (Nat.le_of_ble_eq_true rfl) (kkR (fun r2 m2 E2 hw => ?_))
  have hw := hw E2
  refine x_pop HE dJ4_append_5 (fun o => o) ?_
  refine x_aload_n HE 0 dJ4_append_6 rfl rfl ?_
  exact x_aret HE hr (Or.inl ⟨_, rfl⟩) dJ4_append_7 hw
theorem k_J4_append {G : GT} {x0 x1 : Int} {Q : Int → Hp → Prop} {h : Hp} (f0 : hT h x0 = 34) (l : Launch) (hw : g_J4_append x0 x1 Q h) : XM G l yJ4_append cJ4_append 2 (some (.object "java/lang/StringBuilde\x72")) 2 43 [rV x0, iV x1] (QR Q) h :=
  XM.of (by decide) (Nat.le_of_ble_eq_true rfl) (fun X HE hr hn => w_J4_append_0 HE hr f0 hw)
def g_J3_getValue_at_J4 (x0 : Int) (Q : Int → Hp → Prop) (h : Hp) : Prop :=
  Q (hF h x0 0) h
theorem w_J3_getValue_at_J4_0 {G : GT} {X : ET} {h0 : Hp} {x0 : Int} (HE : XE G X cJ3_getValue 1 RJ3 0 0 h0) (hr : XR X (some (.array .byte))) (f0 : hT h0 x0 = 34) {Q : Int → Hp → Prop} {h : Hp} (hw : g_J3_getValue_at_J4 x0 Q h) : Wx G X h0 (QR Q) h 0 [some (rV x0)] [] := by
  refine Wx.start (fun EB => ?_)
  unfold g_J3_getValue_at_J4 at hw
  refine x_aload_n HE 0 dJ3_getValue_0 rfl rfl ?_
  refine x_gR HE dJ3_getValue_1 fd_J4_0 q402 (Or.inl rfl) (EB.tag f0 (by decide)) rfl ?_
  exact x_aret HE hr (Or.inr ⟨_, rfl⟩) dJ3_getValue_4 hw
theorem k_J3_getValue_at_J4 {G : GT} {x0 : Int} {Q : Int → Hp → Prop} {h : Hp} (f0 : hT h x0 = 34) (l : Launch) (hw : g_J3_getValue_at_J4 x0 Q h) : XM G l yJ3_getValue cJ3_getValue 1 (some (.array .byte)) 0 0 [rV x0] (QR Q) h :=
  XM.of (by decide) (Nat.le_of_ble_eq_true rfl) (fun X HE hr hn => w_J3_getValue_at_J4_0 HE hr f0 hw)
def g_J3_length_at_J4 (x0 : Int) (Q : Int → Hp → Prop) (h : Hp) : Prop :=
  Q (hF h x0 3) h
theorem w_J3_length_at_J4_0 {G : GT} {X : ET} {h0 : Hp} {x0 : Int} (HE : XE G X cJ3_length 1 RJ3 0 0 h0) (hr : XR X (some .int)) (f0 : hT h0 x0 = 34) {Q : Int → Hp → Prop} {h : Hp} (hw : g_J3_length_at_J4 x0 Q h) : Wx G X h0 (QI Q) h 0 [some (rV x0)] [] := by
  refine Wx.start (fun EB => ?_)
  unfold g_J3_length_at_J4 at hw
  refine x_aload_n HE 0 dJ3_length_0 rfl rfl ?_
  refine x_gI HE dJ3_length_1 fd_J4_3 q405 (Or.inl rfl) (EB.tag f0 (by decide)) rfl ?_
  exact x_iret HE hr dJ3_length_4 hw
theorem k_J3_length_at_J4 {G : GT} {x0 : Int} {Q : Int → Hp → Prop} {h : Hp} (f0 : hT h x0 = 34) (l : Launch) (hw : g_J3_length_at_J4 x0 Q h) : XM G l yJ3_length cJ3_length 1 (some .int) 0 0 [rV x0] (QI Q) h :=
  XM.of (by decide) (Nat.le_of_ble_eq_true rfl) (fun X HE hr hn => w_J3_length_at_J4_0 HE hr f0 hw)
def g_J4_length (x0 : Int) (Q : Int → Hp → Prop) (h : Hp) : Prop :=
  g_J3_length_at_J4 x0 (fun r1 m1 => Ext h m1 → (Q r1 m1)) h
theorem w_J4_length_0 {G : GT} {X : ET} {h0 : Hp} {x0 : Int} (HE : XE G X cJ4_length 1 RJ4 1 20 h0) (hr : XR X (some .int)) (f0 : hT h0 x0 = 34) {Q : Int → Hp → Prop} {h : Hp} (hw : g_J4_length x0 Q h) : Wx G X h0 (QI Q) h 0 [some (rV x0)] [] := by
  refine Wx.start (fun EB => ?_)
  unfold g_J4_length at hw
  refine x_aload_n HE 0 dJ4_length_0 rfl rfl ?_
  refine x_callSU HE dJ4_length_1 rfl (fun l => k_J3_length_at_J4 (EB.tag f0 (by decide)) l hw) (As := []) (rest := []) rfl xc34 (EB.tag f0 (by decide)) (lw_app (fun w hw2 => xw5 q534 q530 q414 q529 q134 w hw2) (lw_meth q535)) ⟨by decide, hy_J3_length.2.2.2⟩ rfl rfl (Nat.le_of_ble_eq_true rfl) (Nat.le_of_ble_eq_true rfl) (Nat.le_of_ble_eq_true rfl) (kkI (fun r1 m1 E1 hw => ?_))
  have hw := hw E1
  exact x_iret HE hr dJ4_length_4 hw
theorem k_J4_length {G : GT} {x0 : Int} {Q : Int → Hp → Prop} {h : Hp} (f0 : hT h x0 = 34) (l : Launch) (hw : g_J4_length x0 Q h) : XM G l yJ4_length cJ4_length 1 (some .int) 1 20 [rV x0] (QI Q) h :=
  XM.of (by decide) (Nat.le_of_ble_eq_true rfl) (fun X HE hr hn => w_J4_length_0 HE hr f0 hw)
def g_J9_checkLength (x0 x1 : Int) (Q : Hp → Prop) (h : Hp) : Prop :=
  ((x0 ≤ x1) → (Q h)) ∧ ((x1 < x0) → (False))
theorem w_J9_checkLength_0 {G : GT} {X : ET} {h0 : Hp} {x0 x1 : Int} (HE : XE G X cJ9_checkLength 2 RJ9 0 0 h0) (hr : XR X none) {Q : Hp → Prop} {h : Hp} (hw : g_J9_checkLength x0 x1 Q h) : Wx G X h0 (QV Q) h 0 [some (iV x0), some (iV x1)] [] := by
  refine Wx.start (fun EB => ?_)
  unfold g_J9_checkLength at hw
  refine x_iload_n HE 1 dJ9_checkLength_0 rfl rfl ?_
  refine x_iload_n HE 0 dJ9_checkLength_1 rfl rfl ?_
  refine x_ic_ge HE 37 dJ9_checkLength_2 (by decide) (fun c2 => ?_) (fun c2 => ?_)
  · have hw := hw.1 c2
    exact x_vret HE hr dJ9_checkLength_37 hw
  · have hw := hw.2 c2
    exact hw.elim
theorem k_J9_checkLength {G : GT} {x0 x1 : Int} {Q : Hp → Prop} {h : Hp} (l : Launch) (hw : g_J9_checkLength x0 x1 Q h) : XM G l yJ9_checkLength cJ9_checkLength 2 none 0 0 [iV x0, iV x1] (QV Q) h :=
  XM.of (by decide) (Nat.le_of_ble_eq_true rfl) (fun X HE hr hn => w_J9_checkLength_0 HE hr  hw)
def g_J9_copyOfRangeByte (x0 x1 x2 : Int) (Q : Int → Hp → Prop) (h : Hp) : Prop :=
  g_J9_checkLength x1 x2 (fun m2 => Ext h m2 → ((i32 (x2 - x1)) ∧ (∀ y8 : Int, y8 = (x2 - x1) → ((0 ≤ y8 ∧ y8 ≤ 67108864) ∧ ((capOK m2 y8) ∧ (∀ (a10 : Int) (m10 : Hp), a10 = hN m2 → m10 = alloc m2 2 y8 y8 → WFa m2 → ((Byts m10 x0) ∧ ((i32 ((hL m10 x0) - x1)) ∧ ((hT m10 x0 = 2) ∧ (((0 : Int) ≤ x1 ∧ (0 : Int) ≤ 0 ∧ (0 : Int) ≤ (if y8 < ((hL m10 x0) - x1) then y8 else ((hL m10 x0) - x1))) ∧ (((x1 : Int) + (if y8 < ((hL m10 x0) - x1) then y8 else ((hL m10 x0) - x1)) ≤ hL m10 x0) ∧ (((0 : Int) + (if y8 < ((hL m10 x0) - x1) then y8 else ((hL m10 x0) - x1)) ≤ y8) ∧ ((∀ i : Int, x1 ≤ i → i < x1 + (if y8 < ((hL m10 x0) - x1) then y8 else ((hL m10 x0) - x1)) → -128 ≤ hA m10 x0 i ∧ hA m10 x0 i ≤ 127) ∧ (∀ m27 : Hp, m27 = putA m10 a10 (cpyA (hA m10 x0) (hA m10 a10) x1 0 (if y8 < ((hL m10 x0) - x1) then y8 else ((hL m10 x0) - x1))) → (Q a10 m27))))))))))))))) h
theorem w_J9_copyOfRangeByte_0 {G : GT} {X : ET} {h0 : Hp} {x0 x1 x2 : Int} (HE : XE G X cJ9_copyOfRangeByte 5 RJ9 1 60 h0) (hr : XR X (some (.array .byte))) {Q : Int → Hp → Prop} {h : Hp} (hw : g_J9_copyOfRangeByte x0 x1 x2 Q h) : Wx G X h0 (QR Q) h 0 [some (rV x0), some (iV x1), some (iV x2), none, none] [] := by
  refine Wx.start (fun EB => ?_)
  unfold g_J9_copyOfRangeByte at hw
  refine x_iload_n HE 1 dJ9_copyOfRangeByte_0 rfl rfl ?_
  refine x_iload_n HE 2 dJ9_copyOfRangeByte_1 rfl rfl ?_
  refine x_callS HE dJ9_copyOfRangeByte_2 rfl (fun l => k_J9_checkLength  l hw) (As := [iV x1, iV x2]) (rest := []) rfl (lw_S q543 q544 q140 q545) hy_J9_checkLength.2 rfl rfl (Nat.le_of_ble_eq_true rfl) (Nat.le_of_ble_eq_true rfl) (Nat.le_of_ble_eq_true rfl) (kkV (fun m2 E2 hw => ?_))
  have hw := hw E2
  refine x_iload_n HE 2 dJ9_copyOfRangeByte_5 rfl rfl ?_
  refine x_iload_n HE 1 dJ9_copyOfRangeByte_6 rfl rfl ?_
  obtain ⟨v7, hw⟩ := hw
  refine x_isub HE dJ9_copyOfRangeByte_7 v7 ?_
  refine x_istore_nN HE 3 (fun y8 => [some (rV x0), some (iV x1), some (iV x2), some (iV y8), none]) dJ9_copyOfRangeByte_8 rfl (Nat.le_of_ble_eq_true rfl) (fun _ => rfl) (fun y8 ey8 => ?_)
  have hw := hw y8 ey8
  refine x_iload_n HE 3 dJ9_copyOfRangeByte_9 rfl rfl ?_
  obtain ⟨b10, hw⟩ := hw
  obtain ⟨v10, hw⟩ := hw
  refine x_newBN HE dJ9_copyOfRangeByte_10 q187 b10 v10 (fun a10 m10 ea10 em10 E10 w10 => ?_)
  have hw := hw a10 m10 ea10 em10 w10
  have t10 := alloc_tag ea10 em10
  have l10 := alloc_len ea10 em10
  refine x_astore HE (lo' := [some (rV x0), some (iV x1), some (iV x2), some (iV y8), some (rV a10)]) dJ9_copyOfRangeByte_12 (Nat.le_of_ble_eq_true rfl) rfl ?_
  refine x_aload_n HE 0 dJ9_copyOfRangeByte_14 rfl rfl ?_
  refine x_iload_n HE 1 dJ9_copyOfRangeByte_15 rfl rfl ?_
  refine x_aload HE dJ9_copyOfRangeByte_16 rfl ?_
  refine x_iconst HE dJ9_copyOfRangeByte_18 (by decide) ?_
  refine x_aload_n HE 0 dJ9_copyOfRangeByte_19 rfl rfl ?_
  obtain ⟨v20, hw⟩ := hw
  refine x_alenB HE dJ9_copyOfRangeByte_20 v20 rfl ?_
  refine x_iload_n HE 1 dJ9_copyOfRangeByte_21 rfl rfl ?_
  obtain ⟨v22, hw⟩ := hw
  refine x_isub HE dJ9_copyOfRangeByte_22 v22 ?_
  refine x_iload_n HE 3 dJ9_copyOfRangeByte_23 rfl rfl ?_
  refine x_mmin HE dJ9_copyOfRangeByte_24 rfl q451 q452 q139 q453 (Nat.le_of_ble_eq_true rfl) (Nat.le_of_ble_eq_true rfl) (Nat.le_of_ble_eq_true rfl) ?_
  obtain ⟨v27, hw⟩ := hw
  obtain ⟨p27, hw⟩ := hw
  obtain ⟨q27, hw⟩ := hw
  obtain ⟨r27, hw⟩ := hw
  obtain ⟨s27, hw⟩ := hw
  refine x_cpy (t := 2) (ty := .byte) HE dJ9_copyOfRangeByte_27 rfl q454 q456 q455 q141 (by simp [xAr]) (by unfold roT; omega) v27 t10 p27 q27 (by rw [l10]; exact r27) (fun i i1 i2 => ⟨(nf_byte (s27 i i1 i2)).2, (fun e => by cases e), by decide⟩) (Nat.le_of_ble_eq_true rfl) (Nat.le_of_ble_eq_true rfl) (by decide +kernel) (fun m27 em27 E27 => ?_)
  have hw := hw m27 em27
  refine x_aload HE dJ9_copyOfRangeByte_30 rfl ?_
  exact x_aret HE hr (Or.inr ⟨_, rfl⟩) dJ9_copyOfRangeByte_32 hw
theorem k_J9_copyOfRangeByte {G : GT} {x0 x1 x2 : Int} {Q : Int → Hp → Prop} {h : Hp} (l : Launch) (hw : g_J9_copyOfRangeByte x0 x1 x2 Q h) : XM G l yJ9_copyOfRangeByte cJ9_copyOfRangeByte 5 (some (.array .byte)) 1 60 [rV x0, iV x1, iV x2] (QR Q) h :=
  XM.of (by decide) (Nat.le_of_ble_eq_true rfl) (fun X HE hr hn => w_J9_copyOfRangeByte_0 HE hr  hw)
def g_J9_copyOfRange_b10 (x0 x1 x2 : Int) (Q : Int → Hp → Prop) (h : Hp) : Prop :=
  g_J9_copyOfRangeByte x0 x1 x2 (fun r13 m13 => Ext h m13 → (Q r13 m13)) h
theorem w_J9_copyOfRange_10 {G : GT} {X : ET} {h0 : Hp} {x0 x1 x2 : Int} (HE : XE G X cJ9_copyOfRange 3 RJ9 2 84 h0) (hr : XR X (some (.array .byte))) {Q : Int → Hp → Prop} {h : Hp} (hw : g_J9_copyOfRange_b10 x0 x1 x2 Q  h) : Wx G X h0 (QR Q) h 10 [some (rV x0), some (iV x1), some (iV x2)] [] := by
  refine Wx.start (fun EB => ?_)
  unfold g_J9_copyOfRange_b10 at hw
  refine x_aload_n HE 0 dJ9_copyOfRange_10 rfl rfl ?_
  refine x_iload_n HE 1 dJ9_copyOfRange_11 rfl rfl ?_
  refine x_iload_n HE 2 dJ9_copyOfRange_12 rfl rfl ?_
  refine x_callS HE dJ9_copyOfRange_13 rfl (fun l => k_J9_copyOfRangeByte  l hw) (As := [rV x0, iV x1, iV x2]) (rest := []) rfl (lw_S q540 q541 q140 q542) hy_J9_copyOfRangeByte.2 rfl rfl (Nat.le_of_ble_eq_true rfl) (Nat.le_of_ble_eq_true rfl) (Nat.le_of_ble_eq_true rfl) (kkR (fun r13 m13 E13 hw => ?_))
  have hw := hw E13
  exact x_aret HE hr (Or.inr ⟨_, rfl⟩) dJ9_copyOfRange_16 hw
def g_J9_copyOfRange (x0 x1 x2 : Int) (Q : Int → Hp → Prop) (h : Hp) : Prop :=
  ((x1 ≠ 0) → (g_J9_copyOfRange_b10 x0 x1 x2 Q h)) ∧ ((x1 = 0) → ((Byts h x0) ∧ (((x2 = (hL h x0)) → (False)) ∧ ((x2 ≠ (hL h x0)) → (g_J9_copyOfRange_b10 x0 x1 x2 Q h)))))
theorem w_J9_copyOfRange_0 {G : GT} {X : ET} {h0 : Hp} {x0 x1 x2 : Int} (HE : XE G X cJ9_copyOfRange 3 RJ9 2 84 h0) (hr : XR X (some (.array .byte))) {Q : Int → Hp → Prop} {h : Hp} (hw : g_J9_copyOfRange x0 x1 x2 Q h) : Wx G X h0 (QR Q) h 0 [some (rV x0), some (iV x1), some (iV x2)] [] := by
  refine Wx.start (fun EB => ?_)
  unfold g_J9_copyOfRange at hw
  refine x_iload_n HE 1 dJ9_copyOfRange_0 rfl rfl ?_
  refine x_if_ne HE 10 dJ9_copyOfRange_1 (by decide) (fun c1 => ?_) (fun c1 => ?_)
  · have hw := hw.1 c1
    exact w_J9_copyOfRange_10 HE hr hw
  · have hw := hw.2 c1
    refine x_iload_n HE 2 dJ9_copyOfRange_4 rfl rfl ?_
    refine x_aload_n HE 0 dJ9_copyOfRange_5 rfl rfl ?_
    obtain ⟨v6, hw⟩ := hw
    refine x_alenB HE dJ9_copyOfRange_6 v6 rfl ?_
    refine x_ic_eq HE 17 dJ9_copyOfRange_7 (by decide) (fun c7 => ?_) (fun c7 => ?_)
    · have hw := hw.1 c7
      refine x_aload_n HE 0 dJ9_copyOfRange_17 rfl rfl ?_
      exact hw.elim
    · have hw := hw.2 c7
      exact w_J9_copyOfRange_10 HE hr hw
theorem k_J9_copyOfRange {G : GT} {x0 x1 x2 : Int} {Q : Int → Hp → Prop} {h : Hp} (l : Launch) (hw : g_J9_copyOfRange x0 x1 x2 Q h) : XM G l yJ9_copyOfRange cJ9_copyOfRange 3 (some (.array .byte)) 2 84 [rV x0, iV x1, iV x2] (QR Q) h :=
  XM.of (by decide) (Nat.le_of_ble_eq_true rfl) (fun X HE hr hn => w_J9_copyOfRange_0 HE hr  hw)
def g_J5_init_2_b97 (x0 x1 x2 : Int) (Q : Hp → Prop) (h : Hp) : Prop :=
  Q h
theorem w_J5_init_2_97 {G : GT} {X : ET} {h0 : Hp} {x0 x1 x2 : Int} (HE : XE G X cJ5_init_2 5 RJ5 3 106 h0) (hr : XR X none) (hn : XN X "<init>") (f0 : hT h0 x0 = 33) {Q : Hp → Prop} {h : Hp} (hw : g_J5_init_2_b97 x0 x1 x2 Q  h) : Wx G X h0 (QV Q) h 97 [some (rV x0), some (rV x1), some (rV x2), none, none] [] := by
  refine Wx.start (fun EB => ?_)
  unfold g_J5_init_2_b97 at hw
  exact x_vret HE hr dJ5_init_2_97 hw
def g_J5_init_2_b79 (x0 x1 x2 : Int) (Q : Hp → Prop) (l3 l4 : Int) (h : Hp) : Prop :=
  ∀ m81 : Hp, m81 = setF h x0 1 1 → (g_J9_copyOfRange l3 0 (bShl l4 1) (fun r91 m91 => Ext m81 m91 → ((hF m91 x0 0 = 0) ∧ (∀ m94 : Hp, m94 = setF m91 x0 0 r91 → (g_J5_init_2_b97 x0 x1 x2 Q m94)))) m81)
theorem w_J5_init_2_79 {G : GT} {X : ET} {h0 : Hp} {x0 x1 x2 : Int} (HE : XE G X cJ5_init_2 5 RJ5 3 106 h0) (hr : XR X none) (hn : XN X "<init>") (f0 : hT h0 x0 = 33) {Q : Hp → Prop} {l3 l4 : Int} {h : Hp} (hw : g_J5_init_2_b79 x0 x1 x2 Q l3 l4 h) : Wx G X h0 (QV Q) h 79 [some (rV x0), some (rV x1), some (rV x2), some (rV l3), some (iV l4)] [] := by
  refine Wx.start (fun EB => ?_)
  unfold g_J5_init_2_b79 at hw
  refine x_aload_n HE 0 dJ5_init_2_79 rfl rfl ?_
  refine x_iconst HE dJ5_init_2_80 (by decide) ?_
  refine x_pI HE dJ5_init_2_81 fd_J5_1 q561 (Or.inl rfl) (Or.inr ⟨rfl, hn, rfl⟩) (nf_byte (by decide)) (EB.tag f0 (by decide)) (nro (by decide)) (Or.inl nf_J5_1) (fun m81 em81 E81 => ?_)
  have hw := hw m81 em81
  refine x_aload_n HE 0 dJ5_init_2_84 rfl rfl ?_
  refine x_aload_n HE 3 dJ5_init_2_85 rfl rfl ?_
  refine x_iconst HE dJ5_init_2_86 (by decide) ?_
  refine x_iload HE dJ5_init_2_87 rfl ?_
  refine x_iconst HE dJ5_init_2_89 (by decide) ?_
  refine x_ishl HE dJ5_init_2_90 ?_
  refine x_callS HE dJ5_init_2_91 rfl (fun l => k_J9_copyOfRange  l hw) (As := [rV l3, iV 0, iV (bShl l4 1)]) (rest := [rV x0]) rfl (lw_S q537 q538 q140 q539) hy_J9_copyOfRange.2 rfl rfl (Nat.le_of_ble_eq_true rfl) (Nat.le_of_ble_eq_true rfl) (Nat.le_of_ble_eq_true rfl) (kkR (fun r91 m91 E91 hw => ?_))
  have hw := hw E91
  obtain ⟨z94, hw⟩ := hw
  refine x_pR HE dJ5_init_2_94 fd_J5_0 q560 (Or.inl rfl) (Or.inr ⟨rfl, hn, rfl⟩) (nf_arr _ _) ((EB.tr (E81.tr E91)).tag f0 (by decide)) (nro (by decide)) (Or.inr z94) (fun m94 em94 E94 => ?_)
  have hw := hw m94 em94
  refine Wx.mask [true, true, true, false, false] (lo2 := [some (rV x0), some (rV x1), some (rV x2), none, none]) rfl ?_
  exact w_J5_init_2_97 HE hr hn f0 hw
def g_J5_init_2 (x0 x1 x2 : Int) (Q : Hp → Prop) (h : Hp) : Prop :=
  (hT h x1 = 34) ∧ (g_J3_getValue_at_J4 x1 (fun r5 m5 => Ext h m5 → (g_J4_length x1 (fun r10 m10 => Ext m5 m10 → (g_J3_isLatin1_at_J4 x1 (fun r16 m16 => Ext m10 m16 → (((r16 = 0) → ((((1 : Int) = 0) → (g_J5_init_2_b79 x0 x1 x2 Q r5 r10 m16)) ∧ (((1 : Int) ≠ 0) → ((((hF m16 x1 2) = 0) → (g_J5_init_2_b79 x0 x1 x2 Q r5 r10 m16)) ∧ (((hF m16 x1 2) ≠ 0) → (False)))))) ∧ ((r16 ≠ 0) → (∀ m24 : Hp, m24 = setF m16 x0 1 0 → (g_J9_copyOfRange r5 0 r10 (fun r32 m32 => Ext m24 m32 → ((hF m32 x0 0 = 0) ∧ (∀ m35 : Hp, m35 = setF m32 x0 0 r32 → (g_J5_init_2_b97 x0 x1 x2 Q m35)))) m24))))) m10)) m5)) h)
theorem w_J5_init_2_0 {G : GT} {X : ET} {h0 : Hp} {x0 x1 x2 : Int} (HE : XE G X cJ5_init_2 5 RJ5 3 106 h0) (hr : XR X none) (hn : XN X "<init>") (f0 : hT h0 x0 = 33) {Q : Hp → Prop} {h : Hp} (hw : g_J5_init_2 x0 x1 x2 Q h) : Wx G X h0 (QV Q) h 0 [some (rV x0), some (rV x1), some (rV x2), none, none] [] := by
  refine Wx.start (fun EB => ?_)
  unfold g_J5_init_2 at hw
  refine x_aload_n HE 0 dJ5_init_2_0 rfl rfl ?_
  refine Wx.wf (fun wf1 => ?_)
  refine x_objInit HE dJ5_init_2_1 rfl q522 q170 q171 (tag_pos wf1 (EB.tag f0 (by decide)) (by decide)) (Nat.le_of_ble_eq_true rfl) (Nat.le_of_ble_eq_true rfl) (Nat.le_of_ble_eq_true rfl) ?_
  refine x_aload_n HE 1 dJ5_init_2_4 rfl rfl ?_
  obtain ⟨u5_0, hw⟩ := hw
  refine x_callU (C := RJ4) HE dJ5_init_2_5 rfl (fun l => k_J3_getValue_at_J4 u5_0 l hw) (As := []) (rest := []) rfl xc34 u5_0 (fun ht hK hR => va_cwU 0 ht (lw_app (fun w hw2 => xw5 q523 q525 q526 q524 q134 w hw2) (lw_meth q527)) rfl rfl rfl rfl hy_J3_getValue.2 hR) rfl rfl (Nat.le_of_ble_eq_true rfl) (Nat.le_of_ble_eq_true rfl) (Nat.le_of_ble_eq_true rfl) (kkR (fun r5 m5 E5 hw => ?_))
  have hw := hw E5
  refine x_astore_n HE 3 (lo' := [some (rV x0), some (rV x1), some (rV x2), some (rV r5), none]) dJ5_init_2_8 rfl (Nat.le_of_ble_eq_true rfl) rfl ?_
  refine x_aload_n HE 1 dJ5_init_2_9 rfl rfl ?_
  refine x_callU (C := RJ4) HE dJ5_init_2_10 rfl (fun l => k_J4_length (E5.tag u5_0 (by decide)) l hw) (As := []) (rest := []) rfl xc34 (E5.tag u5_0 (by decide)) (fun ht hK hR => va_cwO 0 ht (lw_app (fun w hw2 => xw6 q528 q530 q529 q531 q532 q135 w hw2) (lw_meth q533)) rfl rfl rfl q535 hy_J3_length.2 hR) rfl rfl (Nat.le_of_ble_eq_true rfl) (Nat.le_of_ble_eq_true rfl) (Nat.le_of_ble_eq_true rfl) (kkI (fun r10 m10 E10 hw => ?_))
  have hw := hw E10
  refine x_istore HE (lo' := [some (rV x0), some (rV x1), some (rV x2), some (rV r5), some (iV r10)]) dJ5_init_2_13 (Nat.le_of_ble_eq_true rfl) rfl ?_
  refine x_aload_n HE 1 dJ5_init_2_15 rfl rfl ?_
  refine x_callU (C := RJ4) HE dJ5_init_2_16 rfl (fun l => k_J3_isLatin1_at_J4 ((E5.tr E10).tag u5_0 (by decide)) l hw) (As := []) (rest := []) rfl xc34 ((E5.tr E10).tag u5_0 (by decide)) (fun ht hK hR => va_cwU 0 ht (lw_app (fun w hw2 => xw5 q536 q459 q460 q458 q134 w hw2) (lw_meth q461)) rfl rfl rfl rfl hy_J3_isLatin1.2 hR) rfl rfl (Nat.le_of_ble_eq_true rfl) (Nat.le_of_ble_eq_true rfl) (Nat.le_of_ble_eq_true rfl) (kkI (fun r16 m16 E16 hw => ?_))
  have hw := hw E16
  refine x_if_eq HE 41 dJ5_init_2_19 (by decide) (fun c19 => ?_) (fun c19 => ?_)
  · have hw := hw.1 c19
    refine x_getCS HE dJ5_init_2_41 q546 ?_
    refine x_if_eq HE 79 dJ5_init_2_44 (by decide) (fun c44 => ?_) (fun c44 => ?_)
    · have hw := hw.1 c44
      exact w_J5_init_2_79 HE hr hn f0 hw
    · have hw := hw.2 c44
      refine x_aload_n HE 1 dJ5_init_2_47 rfl rfl ?_
      refine x_gI HE dJ5_init_2_48 fd_J4_2 q404 (Or.inl rfl) ((E5.tr (E10.tr E16)).tag u5_0 (by decide)) rfl ?_
      refine x_if_eq HE 79 dJ5_init_2_51 (by decide) (fun c51 => ?_) (fun c51 => ?_)
      · have hw := hw.1 c51
        exact w_J5_init_2_79 HE hr hn f0 hw
      · have hw := hw.2 c51
        refine x_aload_n HE 0 dJ5_init_2_54 rfl rfl ?_
        refine x_aload_n HE 3 dJ5_init_2_55 rfl rfl ?_
        refine x_iconst HE dJ5_init_2_56 (by decide) ?_
        refine x_iload HE dJ5_init_2_57 rfl ?_
        exact hw.elim
  · have hw := hw.2 c19
    refine x_aload_n HE 0 dJ5_init_2_22 rfl rfl ?_
    refine x_iconst HE dJ5_init_2_23 (by decide) ?_
    refine x_pI HE dJ5_init_2_24 fd_J5_1 q561 (Or.inl rfl) (Or.inr ⟨rfl, hn, rfl⟩) (nf_byte (by decide)) ((EB.tr (E5.tr (E10.tr E16))).tag f0 (by decide)) (nro (by decide)) (Or.inl nf_J5_1) (fun m24 em24 E24 => ?_)
    have hw := hw m24 em24
    refine x_aload_n HE 0 dJ5_init_2_27 rfl rfl ?_
    refine x_aload_n HE 3 dJ5_init_2_28 rfl rfl ?_
    refine x_iconst HE dJ5_init_2_29 (by decide) ?_
    refine x_iload HE dJ5_init_2_30 rfl ?_
    refine x_callS HE dJ5_init_2_32 rfl (fun l => k_J9_copyOfRange  l hw) (As := [rV r5, iV 0, iV r10]) (rest := [rV x0]) rfl (lw_S q537 q538 q140 q539) hy_J9_copyOfRange.2 rfl rfl (Nat.le_of_ble_eq_true rfl) (Nat.le_of_ble_eq_true rfl) (Nat.le_of_ble_eq_true rfl) (kkR (fun r32 m32 E32 hw => ?_))
    have hw := hw E32
    obtain ⟨z35, hw⟩ := hw
    refine x_pR HE dJ5_init_2_35 fd_J5_0 q560 (Or.inl rfl) (Or.inr ⟨rfl, hn, rfl⟩) (nf_arr _ _) ((EB.tr (E5.tr (E10.tr (E16.tr (E24.tr E32))))).tag f0 (by decide)) (nro (by decide)) (Or.inr z35) (fun m35 em35 E35 => ?_)
    have hw := hw m35 em35
    refine x_goto HE 97 dJ5_init_2_38 (by decide) ?_
    refine Wx.mask [true, true, true, false, false] (lo2 := [some (rV x0), some (rV x1), some (rV x2), none, none]) rfl ?_
    exact w_J5_init_2_97 HE hr hn f0 hw
theorem k_J5_init_2 {G : GT} {x0 x1 x2 : Int} {Q : Hp → Prop} {h : Hp} (f0 : hT h x0 = 33) (l : Launch) (hw : g_J5_init_2 x0 x1 x2 Q h) : XM G l yJ5_init_2 cJ5_init_2 5 none 3 106 [rV x0, rV x1, rV x2] (QV Q) h :=
  XM.of (by decide) (Nat.le_of_ble_eq_true rfl) (fun X HE hr hn => w_J5_init_2_0 HE hr hn f0 hw)
def g_J5_init (x0 x1 : Int) (Q : Hp → Prop) (h : Hp) : Prop :=
  g_J5_init_2 x0 x1 0 (fun m3 => Ext h m3 → (Q m3)) h
theorem w_J5_init_0 {G : GT} {X : ET} {h0 : Hp} {x0 x1 : Int} (HE : XE G X cJ5_init 2 RJ5 4 130 h0) (hr : XR X none) (hn : XN X "<init>") (f0 : hT h0 x0 = 33) {Q : Hp → Prop} {h : Hp} (hw : g_J5_init x0 x1 Q h) : Wx G X h0 (QV Q) h 0 [some (rV x0), some (rV x1)] [] := by
  refine Wx.start (fun EB => ?_)
  unfold g_J5_init at hw
  refine x_aload_n HE 0 dJ5_init_0 rfl rfl ?_
  refine x_aload_n HE 1 dJ5_init_1 rfl rfl ?_
  refine x_null HE dJ5_init_2 ?_
  refine Wx.wf (fun wf3 => ?_)
  refine x_callI HE dJ5_init_3 rfl (fun l => k_J5_init_2 (EB.tag f0 (by decide)) l hw) (As := [rV x1, rV 0]) (rest := []) rfl (tag_pos wf3 (EB.tag f0 (by decide)) (by decide)) q519 q136 q520 q521 rfl hy_J5_init_2.2 rfl rfl (Nat.le_of_ble_eq_true rfl) (Nat.le_of_ble_eq_true rfl) (Nat.le_of_ble_eq_true rfl) (kkV (fun m3 E3 hw => ?_))
  have hw := hw E3
  exact x_vret HE hr dJ5_init_6 hw
theorem k_J5_init {G : GT} {x0 x1 : Int} {Q : Hp → Prop} {h : Hp} (f0 : hT h x0 = 33) (l : Launch) (hw : g_J5_init x0 x1 Q h) : XM G l yJ5_init cJ5_init 2 none 4 130 [rV x0, rV x1] (QV Q) h :=
  XM.of (by decide) (Nat.le_of_ble_eq_true rfl) (fun X HE hr hn => w_J5_init_0 HE hr hn f0 hw)
def g_J4_toString (x0 : Int) (Q : Int → Hp → Prop) (h : Hp) : Prop :=
  (capOK h 4) ∧ (∀ (a0 : Int) (m0 : Hp), a0 = hN h → m0 = alloc h 33 0 4 → WFa h → (g_J5_init a0 x0 (fun m5 => Ext m0 m5 → (Q a0 m5)) m0))
theorem w_J4_toString_0 {G : GT} {X : ET} {h0 : Hp} {x0 : Int} (HE : XE G X cJ4_toString 1 RJ4 5 151 h0) (hr : XR X (some (.object "java/lang/String"))) (f0 : hT h0 x0 = 34) {Q : Int → Hp → Prop} {h : Hp} (hw : g_J4_toString x0 Q h) : Wx G X h0 (QR Q) h 0 [some (rV x0)] [] := by
  refine Wx.start (fun EB => ?_)
  unfold g_J4_toString at hw
  obtain ⟨v0, hw⟩ := hw
  refine x_newN HE dJ4_toString_0 xc33 (by decide) (nro (by decide)) q514 q515 q136 v0 (fun a0 m0 ea0 em0 E0 w0 => ?_)
  have hw := hw a0 m0 ea0 em0 w0
  have t0 := alloc_tag ea0 em0
  refine x_dup HE dJ4_toString_3 (fun o => o) ?_
  refine x_aload_n HE 0 dJ4_toString_4 rfl rfl ?_
  refine Wx.wf (fun wf5 => ?_)
  refine x_callI HE dJ4_toString_5 rfl (fun l => k_J5_init t0 l hw) (As := [rV x0]) (rest := [rV a0]) rfl (tag_pos wf5 t0 (by decide)) q516 q136 q517 q518 rfl hy_J5_init.2 rfl rfl (Nat.le_of_ble_eq_true rfl) (Nat.le_of_ble_eq_true rfl) (Nat.le_of_ble_eq_true rfl) (kkV (fun m5 E5 hw => ?_))
  have hw := hw E5
  exact x_aret HE hr (Or.inl ⟨_, rfl⟩) dJ4_toString_8 hw
theorem k_J4_toString {G : GT} {x0 : Int} {Q : Int → Hp → Prop} {h : Hp} (f0 : hT h x0 = 34) (l : Launch) (hw : g_J4_toString x0 Q h) : XM G l yJ4_toString cJ4_toString 1 (some (.object "java/lang/String")) 5 151 [rV x0] (QR Q) h :=
  XM.of (by decide) (Nat.le_of_ble_eq_true rfl) (fun X HE hr hn => w_J4_toString_0 HE hr f0 hw)
def g_J5_isLatin1_b18 (x0 : Int) (Q : Int → Hp → Prop) (s0 : Int) (h : Hp) : Prop :=
  (s0 = 0 ∨ s0 = 1) ∧ Q s0 h
theorem w_J5_isLatin1_18 {G : GT} {X : ET} {h0 : Hp} {x0 : Int} (HE : XE G X cJ5_isLatin1 1 RJ5 0 0 h0) (hr : XR X (some .boolean)) (f0 : Strg h0 x0) {Q : Int → Hp → Prop} {s0 : Int} {h : Hp} (hw : g_J5_isLatin1_b18 x0 Q s0 h) : Wx G X h0 (QI Q) h 18 [some (rV x0)] [iV s0] := by
  refine Wx.start (fun EB => ?_)
  unfold g_J5_isLatin1_b18 at hw
  exact x_zret HE hr dJ5_isLatin1_18 hw.1 hw.2
def g_J5_isLatin1_b17 (x0 : Int) (Q : Int → Hp → Prop) (h : Hp) : Prop :=
  g_J5_isLatin1_b18 x0 Q 0 h
theorem w_J5_isLatin1_17 {G : GT} {X : ET} {h0 : Hp} {x0 : Int} (HE : XE G X cJ5_isLatin1 1 RJ5 0 0 h0) (hr : XR X (some .boolean)) (f0 : Strg h0 x0) {Q : Int → Hp → Prop} {h : Hp} (hw : g_J5_isLatin1_b17 x0 Q  h) : Wx G X h0 (QI Q) h 17 [some (rV x0)] [] := by
  refine Wx.start (fun EB => ?_)
  unfold g_J5_isLatin1_b17 at hw
  refine x_iconst HE dJ5_isLatin1_17 (by decide) ?_
  exact w_J5_isLatin1_18 HE hr f0 hw
def g_J5_isLatin1 (x0 : Int) (Q : Int → Hp → Prop) (h : Hp) : Prop :=
  (((1 : Int) = 0) → (g_J5_isLatin1_b17 x0 Q h)) ∧ (((1 : Int) ≠ 0) → ((((hF h x0 1) ≠ 0) → (g_J5_isLatin1_b17 x0 Q h)) ∧ (((hF h x0 1) = 0) → (g_J5_isLatin1_b18 x0 Q 1 h))))
theorem w_J5_isLatin1_0 {G : GT} {X : ET} {h0 : Hp} {x0 : Int} (HE : XE G X cJ5_isLatin1 1 RJ5 0 0 h0) (hr : XR X (some .boolean)) (f0 : Strg h0 x0) {Q : Int → Hp → Prop} {h : Hp} (hw : g_J5_isLatin1 x0 Q h) : Wx G X h0 (QI Q) h 0 [some (rV x0)] [] := by
  refine Wx.start (fun EB => ?_)
  unfold g_J5_isLatin1 at hw
  refine x_getCS HE dJ5_isLatin1_0 q546 ?_
  refine x_if_eq HE 17 dJ5_isLatin1_3 (by decide) (fun c3 => ?_) (fun c3 => ?_)
  · have hw := hw.1 c3
    exact w_J5_isLatin1_17 HE hr f0 hw
  · have hw := hw.2 c3
    refine x_aload_n HE 0 dJ5_isLatin1_6 rfl rfl ?_
    refine x_gStr1 HE dJ5_isLatin1_7 q561 (Or.inl rfl) (f0.ext EB) rfl ?_
    refine x_if_ne HE 17 dJ5_isLatin1_10 (by decide) (fun c10 => ?_) (fun c10 => ?_)
    · have hw := hw.1 c10
      exact w_J5_isLatin1_17 HE hr f0 hw
    · have hw := hw.2 c10
      refine x_iconst HE dJ5_isLatin1_13 (by decide) ?_
      refine x_goto HE 18 dJ5_isLatin1_14 (by decide) ?_
      exact w_J5_isLatin1_18 HE hr f0 hw
theorem k_J5_isLatin1 {G : GT} {x0 : Int} {Q : Int → Hp → Prop} {h : Hp} (f0 : Strg h x0) (l : Launch) (hw : g_J5_isLatin1 x0 Q h) : XM G l yJ5_isLatin1 cJ5_isLatin1 1 (some .boolean) 0 0 [rV x0] (QI Q) h :=
  XM.of (by decide) (Nat.le_of_ble_eq_true rfl) (fun X HE hr hn => w_J5_isLatin1_0 HE hr f0 hw)
def g_J7_signedHashCode_b35 (x1 x2 x3 : Int) (Q : Int → Hp → Prop) (l0 : Int) (h : Hp) : Prop :=
  Q l0 h
theorem w_J7_signedHashCode_35 {G : GT} {X : ET} {h0 : Hp} {x1 x2 x3 : Int} (HE : XE G X cJ7_signedHashCode 6 RJ7 0 0 h0) (hr : XR X (some .int)) {Q : Int → Hp → Prop} {l0 : Int} {h : Hp} (hw : g_J7_signedHashCode_b35 x1 x2 x3 Q l0 h) : Wx G X h0 (QI Q) h 35 [some (iV l0), some (rV x1), some (iV x2), some (iV x3), none, none] [] := by
  refine Wx.start (fun EB => ?_)
  unfold g_J7_signedHashCode_b35 at hw
  refine x_iload_n HE 0 dJ7_signedHashCode_35 rfl rfl ?_
  exact x_iret HE hr dJ7_signedHashCode_36 hw
def g_J7_signedHashCode_L8 (x1 x2 x3 : Int) (Q : Int → Hp → Prop) (K8 : Int → Int → Int → Hp → Prop) (l0 l4 l5 : Int) (h : Hp) : Prop :=
  ((l4 ≤ l5) → (g_J7_signedHashCode_b35 x1 x2 x3 Q l0 h)) ∧ ((l5 < l4) → ((Byts h x1) ∧ (((0 : Int) ≤ l5 ∧ l5 < hL h x1) ∧ (∀ y28 : Int, y28 = (w32 ((w32 (31 * l0)) + (bAnd (hA h x1 l5) 255))) → ((i32 (l5 + 1)) ∧ (∀ y29 : Int, y29 = l5 + 1 → (K8 y28 l4 y29 h)))))))
theorem w_J7_signedHashCode_8 {G : GT} {X : ET} {h0 : Hp} {x1 x2 x3 : Int} (HE : XE G X cJ7_signedHashCode 6 RJ7 0 0 h0) (hr : XR X (some .int)) {Q : Int → Hp → Prop} {K8 : Int → Int → Int → Hp → Prop} (hK8 : ∀ (l0 l4 l5 : Int) (h : Hp), K8 l0 l4 l5 h → Wx G X h0 (QI Q) h 8 [some (iV l0), some (rV x1), some (iV x2), some (iV x3), some (iV l4), some (iV l5)] []) {l0 l4 l5 : Int} {h : Hp} (hw : g_J7_signedHashCode_L8 x1 x2 x3 Q K8 l0 l4 l5 h) : Wx G X h0 (QI Q) h 8 [some (iV l0), some (rV x1), some (iV x2), some (iV x3), some (iV l4), some (iV l5)] [] := by
  refine Wx.start (fun EB => ?_)
  unfold g_J7_signedHashCode_L8 at hw
  refine x_iload HE dJ7_signedHashCode_8 rfl ?_
  refine x_iload HE dJ7_signedHashCode_10 rfl ?_
  refine x_ic_ge HE 35 dJ7_signedHashCode_12 (by decide) (fun c12 => ?_) (fun c12 => ?_)
  · have hw := hw.1 c12
    refine Wx.mask [true, true, true, true, false, false] (lo2 := [some (iV l0), some (rV x1), some (iV x2), some (iV x3), none, none]) rfl ?_
    exact w_J7_signedHashCode_35 HE hr hw
  · have hw := hw.2 c12
    refine x_bipush HE dJ7_signedHashCode_15 (by decide) ?_
    refine x_iload_n HE 0 dJ7_signedHashCode_17 rfl rfl ?_
    refine x_imulW HE dJ7_signedHashCode_18 ?_
    refine x_aload_n HE 1 dJ7_signedHashCode_19 rfl rfl ?_
    refine x_iload HE dJ7_signedHashCode_20 rfl ?_
    obtain ⟨v22, hw⟩ := hw
    obtain ⟨i22, hw⟩ := hw
    refine x_baldB HE dJ7_signedHashCode_22 v22 i22 rfl ?_
    refine x_sipush HE dJ7_signedHashCode_23 (by decide) ?_
    refine x_iand HE dJ7_signedHashCode_26 ?_
    refine x_iaddW HE dJ7_signedHashCode_27 ?_
    refine x_istore_nN HE 0 (fun y28 => [some (iV y28), some (rV x1), some (iV x2), some (iV x3), some (iV l4), some (iV l5)]) dJ7_signedHashCode_28 rfl (Nat.le_of_ble_eq_true rfl) (fun _ => rfl) (fun y28 ey28 => ?_)
    have hw := hw y28 ey28
    obtain ⟨v29, hw⟩ := hw
    refine x_iincN HE (fun y29 => [some (iV y28), some (rV x1), some (iV x2), some (iV x3), some (iV l4), some (iV y29)]) dJ7_signedHashCode_29 rfl v29 (Nat.le_of_ble_eq_true rfl) (fun _ => rfl) (fun y29 ey29 => ?_)
    have hw := hw y29 ey29
    refine x_goto HE 8 dJ7_signedHashCode_32 (by decide) ?_
    exact hK8 _ _ _ _ hw
theorem wl_J7_signedHashCode_8 {G : GT} {X : ET} {h0 : Hp} {x1 x2 x3 : Int} (HE : XE G X cJ7_signedHashCode 6 RJ7 0 0 h0) (hr : XR X (some .int)) {Q : Int → Hp → Prop} {l0 l4 l5 : Int} {h : Hp} (hw : Lp3 (g_J7_signedHashCode_L8 x1 x2 x3 Q) l0 l4 l5 h) : Wx G X h0 (QI Q) h 8 [some (iV l0), some (rV x1), some (iV x2), some (iV x3), some (iV l4), some (iV l5)] [] := by
  obtain ⟨n, hw⟩ := hw
  induction n generalizing l0 l4 l5 h with
  | zero => exact hw.elim
  | succ n ih => exact w_J7_signedHashCode_8 HE hr (fun _ _ _ _ hk => ih hk) hw
def g_J7_signedHashCode (x0 x1 x2 x3 : Int) (Q : Int → Hp → Prop) (h : Hp) : Prop :=
  ∀ y3 : Int, y3 = (w32 (x2 + x3)) → (Lp3 (g_J7_signedHashCode_L8 x1 x2 x3 Q) x0 y3 x2 h)
theorem w_J7_signedHashCode_0 {G : GT} {X : ET} {h0 : Hp} {x1 x2 x3 : Int} (HE : XE G X cJ7_signedHashCode 6 RJ7 0 0 h0) (hr : XR X (some .int)) {Q : Int → Hp → Prop} {x0 : Int} {h : Hp} (hw : g_J7_signedHashCode x0 x1 x2 x3 Q h) : Wx G X h0 (QI Q) h 0 [some (iV x0), some (rV x1), some (iV x2), some (iV x3), none, none] [] := by
  refine Wx.start (fun EB => ?_)
  unfold g_J7_signedHashCode at hw
  refine x_iload_n HE 2 dJ7_signedHashCode_0 rfl rfl ?_
  refine x_iload_n HE 3 dJ7_signedHashCode_1 rfl rfl ?_
  refine x_iaddW HE dJ7_signedHashCode_2 ?_
  refine x_istoreN HE (fun y3 => [some (iV x0), some (rV x1), some (iV x2), some (iV x3), some (iV y3), none]) dJ7_signedHashCode_3 (Nat.le_of_ble_eq_true rfl) (fun _ => rfl) (fun y3 ey3 => ?_)
  have hw := hw y3 ey3
  refine x_iload_n HE 2 dJ7_signedHashCode_5 rfl rfl ?_
  refine x_istore HE (lo' := [some (iV x0), some (rV x1), some (iV x2), some (iV x3), some (iV y3), some (iV x2)]) dJ7_signedHashCode_6 (Nat.le_of_ble_eq_true rfl) rfl ?_
  exact wl_J7_signedHashCode_8 HE hr hw
theorem k_J7_signedHashCode {G : GT} {x0 x1 x2 x3 : Int} {Q : Int → Hp → Prop} {h : Hp} (l : Launch) (hw : g_J7_signedHashCode x0 x1 x2 x3 Q h) : XM G l yJ7_signedHashCode cJ7_signedHashCode 6 (some .int) 0 0 [iV x0, rV x1, iV x2, iV x3] (QI Q) h :=
  XM.of (by decide) (Nat.le_of_ble_eq_true rfl) (fun X HE hr hn => w_J7_signedHashCode_0 HE hr  hw)
def g_J7_vectorizedHashCode (x0 x1 x2 x3 x4 : Int) (Q : Int → Hp → Prop) (h : Hp) : Prop :=
  ((x4 = 4) → ((Byts h x0) ∧ (g_J7_signedHashCode x3 x0 x1 x2 (fun r51 m51 => Ext h m51 → (Q r51 m51)) h))) ∧ ((x4 = 5) → (False)) ∧ ((x4 = 6) → (False)) ∧ ((x4 = 7) → (False)) ∧ ((x4 = 8) → (False)) ∧ ((x4 = 9) → (False)) ∧ ((x4 = 10) → (False)) ∧ ((x4 ≠ 4 ∧ x4 ≠ 5 ∧ x4 ≠ 6 ∧ x4 ≠ 7 ∧ x4 ≠ 8 ∧ x4 ≠ 9 ∧ x4 ≠ 10) → (False))
theorem w_J7_vectorizedHashCode_0 {G : GT} {X : ET} {h0 : Hp} {x0 x1 x2 x3 x4 : Int} (HE : XE G X cJ7_vectorizedHashCode 5 RJ7 1 25 h0) (hr : XR X (some .int)) {Q : Int → Hp → Prop} {h : Hp} (hw : g_J7_vectorizedHashCode x0 x1 x2 x3 x4 Q h) : Wx G X h0 (QI Q) h 0 [some (rV x0), some (iV x1), some (iV x2), some (iV x3), some (iV x4)] [] := by
  refine Wx.start (fun EB => ?_)
  unfold g_J7_vectorizedHashCode at hw
  refine x_iload HE dJ7_vectorizedHashCode_0 rfl ?_
  by_cases s2_4 : x4 = 4
  · have hw := hw.1 s2_4
    refine x_tabIn HE 44 dJ7_vectorizedHashCode_2 4 s2_4 (by decide) rfl (by decide) ?_
    refine x_iload_n HE 3 dJ7_vectorizedHashCode_44 rfl rfl ?_
    refine x_aload_n HE 0 dJ7_vectorizedHashCode_45 rfl rfl ?_
    obtain ⟨v46, hw⟩ := hw
    refine x_castB HE dJ7_vectorizedHashCode_46 q614 v46 ?_
    refine x_iload_n HE 1 dJ7_vectorizedHashCode_49 rfl rfl ?_
    refine x_iload_n HE 2 dJ7_vectorizedHashCode_50 rfl rfl ?_
    refine x_callS HE dJ7_vectorizedHashCode_51 rfl (fun l => k_J7_signedHashCode  l hw) (As := [iV x3, rV x0, iV x1, iV x2]) (rest := []) rfl (lw_S q615 q616 q138 q617) hy_J7_signedHashCode.2 rfl rfl (Nat.le_of_ble_eq_true rfl) (Nat.le_of_ble_eq_true rfl) (Nat.le_of_ble_eq_true rfl) (kkI (fun r51 m51 E51 hw => ?_))
    have hw := hw E51
    refine x_goto HE 157 dJ7_vectorizedHashCode_54 (by decide) ?_
    exact x_iret HE hr dJ7_vectorizedHashCode_157 hw
  have hw := hw.2
  by_cases s2_5 : x4 = 5
  · have hw := hw.1 s2_5
    refine x_tabIn HE 57 dJ7_vectorizedHashCode_2 5 s2_5 (by decide) rfl (by decide) ?_
    refine x_aload_n HE 0 dJ7_vectorizedHashCode_57 rfl rfl ?_
    exact hw.elim
  have hw := hw.2
  by_cases s2_6 : x4 = 6
  · have hw := hw.1 s2_6
    refine x_tabIn HE 129 dJ7_vectorizedHashCode_2 6 s2_6 (by decide) rfl (by decide) ?_
    exact hw.elim
  have hw := hw.2
  by_cases s2_7 : x4 = 7
  · have hw := hw.1 s2_7
    refine x_tabIn HE 129 dJ7_vectorizedHashCode_2 7 s2_7 (by decide) rfl (by decide) ?_
    exact hw.elim
  have hw := hw.2
  by_cases s2_8 : x4 = 8
  · have hw := hw.1 s2_8
    refine x_tabIn HE 90 dJ7_vectorizedHashCode_2 8 s2_8 (by decide) rfl (by decide) ?_
    refine x_iload_n HE 3 dJ7_vectorizedHashCode_90 rfl rfl ?_
    refine x_aload_n HE 0 dJ7_vectorizedHashCode_91 rfl rfl ?_
    exact hw.elim
  have hw := hw.2
  by_cases s2_9 : x4 = 9
  · have hw := hw.1 s2_9
    refine x_tabIn HE 103 dJ7_vectorizedHashCode_2 9 s2_9 (by decide) rfl (by decide) ?_
    refine x_iload_n HE 3 dJ7_vectorizedHashCode_103 rfl rfl ?_
    refine x_aload_n HE 0 dJ7_vectorizedHashCode_104 rfl rfl ?_
    exact hw.elim
  have hw := hw.2
  by_cases s2_10 : x4 = 10
  · have hw := hw.1 s2_10
    refine x_tabIn HE 116 dJ7_vectorizedHashCode_2 10 s2_10 (by decide) rfl (by decide) ?_
    refine x_iload_n HE 3 dJ7_vectorizedHashCode_116 rfl rfl ?_
    refine x_aload_n HE 0 dJ7_vectorizedHashCode_117 rfl rfl ?_
    exact hw.elim
  have hw := hw.2
  have hw := hw ⟨s2_4, s2_5, s2_6, s2_7, s2_8, s2_9, s2_10⟩
  refine x_tabOut HE 129 dJ7_vectorizedHashCode_2 (tabE (tabS (b := 11) (tabS (b := 10) (tabS (b := 9) (tabS (b := 8) (tabS (b := 7) (tabS (b := 6) (tabS (b := 5) (Int.lt_or_le x4 4) (by decide) s2_4) (by decide) s2_5) (by decide) s2_6) (by decide) s2_7) (by decide) s2_8) (by decide) s2_9) (by decide) s2_10) (by decide)) (by decide) ?_
  exact hw.elim
theorem k_J7_vectorizedHashCode {G : GT} {x0 x1 x2 x3 x4 : Int} {Q : Int → Hp → Prop} {h : Hp} (l : Launch) (hw : g_J7_vectorizedHashCode x0 x1 x2 x3 x4 Q h) : XM G l yJ7_vectorizedHashCode cJ7_vectorizedHashCode 5 (some .int) 1 25 [rV x0, iV x1, iV x2, iV x3, iV x4] (QI Q) h :=
  XM.of (by decide) (Nat.le_of_ble_eq_true rfl) (fun X HE hr hn => w_J7_vectorizedHashCode_0 HE hr  hw)
def g_J10_hashCode_b51 (x0 : Int) (Q : Int → Hp → Prop) (s0 : Int) (h : Hp) : Prop :=
  Q s0 h
theorem w_J10_hashCode_51 {G : GT} {X : ET} {h0 : Hp} {x0 : Int} (HE : XE G X cJ10_hashCode 1 RJ10 2 49 h0) (hr : XR X (some .int)) {Q : Int → Hp → Prop} {s0 : Int} {h : Hp} (hw : g_J10_hashCode_b51 x0 Q s0 h) : Wx G X h0 (QI Q) h 51 [some (rV x0)] [iV s0] := by
  refine Wx.start (fun EB => ?_)
  unfold g_J10_hashCode_b51 at hw
  exact x_iret HE hr dJ10_hashCode_51 hw
def g_J10_hashCode (x0 : Int) (Q : Int → Hp → Prop) (h : Hp) : Prop :=
  (Byts h x0) ∧ ((((hL h x0) = 0) → (g_J10_hashCode_b51 x0 Q 0 h)) ∧ (((hL h x0) = 1) → (((0 : Int) ≤ 0 ∧ 0 < hL h x0) ∧ (g_J10_hashCode_b51 x0 Q (bAnd (hA h x0 0) 255) h))) ∧ (((hL h x0) ≠ 0 ∧ (hL h x0) ≠ 1) → (g_J7_vectorizedHashCode x0 0 (hL h x0) 0 4 (fun r48 m48 => Ext h m48 → (g_J10_hashCode_b51 x0 Q r48 m48)) h)))
theorem w_J10_hashCode_0 {G : GT} {X : ET} {h0 : Hp} {x0 : Int} (HE : XE G X cJ10_hashCode 1 RJ10 2 49 h0) (hr : XR X (some .int)) {Q : Int → Hp → Prop} {h : Hp} (hw : g_J10_hashCode x0 Q h) : Wx G X h0 (QI Q) h 0 [some (rV x0)] [] := by
  refine Wx.start (fun EB => ?_)
  unfold g_J10_hashCode at hw
  refine x_aload_n HE 0 dJ10_hashCode_0 rfl rfl ?_
  obtain ⟨v1, hw⟩ := hw
  refine x_alenB HE dJ10_hashCode_1 v1 rfl ?_
  by_cases s2_0 : (hL h x0) = 0
  · have hw := hw.1 s2_0
    refine x_lookup (off := 26) HE 28 dJ10_hashCode_2 (by decide) ((congrArg (Op.lookupswitch.offset _ _) s2_0).trans (by decide +kernel)) (by decide) ?_
    refine x_iconst HE dJ10_hashCode_28 (by decide) ?_
    refine x_goto HE 51 dJ10_hashCode_29 (by decide) ?_
    exact w_J10_hashCode_51 HE hr hw
  have hw := hw.2
  by_cases s2_1 : (hL h x0) = 1
  · have hw := hw.1 s2_1
    refine x_lookup (off := 30) HE 32 dJ10_hashCode_2 (by decide) ((congrArg (Op.lookupswitch.offset _ _) s2_1).trans (by decide +kernel)) (by decide) ?_
    refine x_aload_n HE 0 dJ10_hashCode_32 rfl rfl ?_
    refine x_iconst HE dJ10_hashCode_33 (by decide) ?_
    obtain ⟨i34, hw⟩ := hw
    refine x_baldB HE dJ10_hashCode_34 v1 i34 rfl ?_
    refine x_sipush HE dJ10_hashCode_35 (by decide) ?_
    refine x_iand HE dJ10_hashCode_38 ?_
    refine x_goto HE 51 dJ10_hashCode_39 (by decide) ?_
    exact w_J10_hashCode_51 HE hr hw
  have hw := hw.2
  have hw := hw ⟨s2_0, s2_1⟩
  refine x_lookup (off := 40) HE 42 dJ10_hashCode_2 (by decide) (lsw_off (by simp only [List.mem_cons, List.not_mem_nil, or_false, forall_eq_or_imp, forall_eq]; exact ⟨s2_0, s2_1⟩)) (by decide) ?_
  refine x_aload_n HE 0 dJ10_hashCode_42 rfl rfl ?_
  refine x_iconst HE dJ10_hashCode_43 (by decide) ?_
  refine x_aload_n HE 0 dJ10_hashCode_44 rfl rfl ?_
  refine x_alenB HE dJ10_hashCode_45 v1 rfl ?_
  refine x_iconst HE dJ10_hashCode_46 (by decide) ?_
  refine x_iconst HE dJ10_hashCode_47 (by decide) ?_
  refine x_callS HE dJ10_hashCode_48 rfl (fun l => k_J7_vectorizedHashCode  l hw) (As := [rV x0, iV 0, iV (hL h x0), iV 0, iV 4]) (rest := []) rfl (lw_S q611 q612 q138 q613) hy_J7_vectorizedHashCode.2 rfl rfl (Nat.le_of_ble_eq_true rfl) (Nat.le_of_ble_eq_true rfl) (Nat.le_of_ble_eq_true rfl) (kkI (fun r48 m48 E48 hw => ?_))
  have hw := hw E48
  exact w_J10_hashCode_51 HE hr hw
theorem k_J10_hashCode {G : GT} {x0 : Int} {Q : Int → Hp → Prop} {h : Hp} (l : Launch) (hw : g_J10_hashCode x0 Q h) : XM G l yJ10_hashCode cJ10_hashCode 1 (some .int) 2 49 [rV x0] (QI Q) h :=
  XM.of (by decide) (Nat.le_of_ble_eq_true rfl) (fun X HE hr hn => w_J10_hashCode_0 HE hr  hw)
def g_J5_hashCode_b58 (x0 : Int) (Q : Int → Hp → Prop) (l1 : Int) (h : Hp) : Prop :=
  Q l1 h
theorem w_J5_hashCode_58 {G : GT} {X : ET} {h0 : Hp} {x0 : Int} (HE : XE G X cJ5_hashCode 2 RJ5 3 69 h0) (hr : XR X (some .int)) (f0 : Strg h0 x0) {Q : Int → Hp → Prop} {l1 : Int} {h : Hp} (hw : g_J5_hashCode_b58 x0 Q l1 h) : Wx G X h0 (QI Q) h 58 [some (rV x0), some (iV l1)] [] := by
  refine Wx.start (fun EB => ?_)
  unfold g_J5_hashCode_b58 at hw
  refine x_iload_n HE 1 dJ5_hashCode_58 rfl rfl ?_
  exact x_iret HE hr dJ5_hashCode_59 hw
def g_J5_hashCode (x0 : Int) (Q : Int → Hp → Prop) (h : Hp) : Prop :=
  ∀ y4 : Int, y4 = (hF h x0 2) → (((y4 ≠ 0) → (g_J5_hashCode_b58 x0 Q y4 h)) ∧ ((y4 = 0) → ((((hF h x0 3) ≠ 0) → (g_J5_hashCode_b58 x0 Q y4 h)) ∧ (((hF h x0 3) = 0) → (g_J5_isLatin1 x0 (fun r17 m17 => Ext h m17 → (((r17 = 0) → (False)) ∧ ((r17 ≠ 0) → (g_J10_hashCode (hF m17 x0 0) (fun r27 m27 => Ext m17 m27 → (((r27 ≠ 0) → ((hT m27 x0 = 33) ∧ (∀ m55 : Hp, m55 = setF m27 x0 2 r27 → (g_J5_hashCode_b58 x0 Q r27 m55)))) ∧ ((r27 = 0) → ((hT m27 x0 = 33) ∧ (∀ m47 : Hp, m47 = setF m27 x0 3 1 → (g_J5_hashCode_b58 x0 Q r27 m47)))))) m17)))) h)))))
theorem w_J5_hashCode_0 {G : GT} {X : ET} {h0 : Hp} {x0 : Int} (HE : XE G X cJ5_hashCode 2 RJ5 3 69 h0) (hr : XR X (some .int)) (f0 : Strg h0 x0) {Q : Int → Hp → Prop} {h : Hp} (hw : g_J5_hashCode x0 Q h) : Wx G X h0 (QI Q) h 0 [some (rV x0), none] [] := by
  refine Wx.start (fun EB => ?_)
  unfold g_J5_hashCode at hw
  refine x_aload_n HE 0 dJ5_hashCode_0 rfl rfl ?_
  refine x_gStr2 HE dJ5_hashCode_1 q562 (Or.inl rfl) (f0.ext EB) rfl ?_
  refine x_istore_nN HE 1 (fun y4 => [some (rV x0), some (iV y4)]) dJ5_hashCode_4 rfl (Nat.le_of_ble_eq_true rfl) (fun _ => rfl) (fun y4 ey4 => ?_)
  have hw := hw y4 ey4
  refine x_iload_n HE 1 dJ5_hashCode_5 rfl rfl ?_
  refine x_if_ne HE 58 dJ5_hashCode_6 (by decide) (fun c6 => ?_) (fun c6 => ?_)
  · have hw := hw.1 c6
    exact w_J5_hashCode_58 HE hr f0 hw
  · have hw := hw.2 c6
    refine x_aload_n HE 0 dJ5_hashCode_9 rfl rfl ?_
    refine x_gStr3 HE dJ5_hashCode_10 q563 (Or.inl rfl) (f0.ext EB) rfl ?_
    refine x_if_ne HE 58 dJ5_hashCode_13 (by decide) (fun c13 => ?_) (fun c13 => ?_)
    · have hw := hw.1 c13
      exact w_J5_hashCode_58 HE hr f0 hw
    · have hw := hw.2 c13
      refine x_aload_n HE 0 dJ5_hashCode_16 rfl rfl ?_
      refine x_callV (t := hT h x0) HE dJ5_hashCode_17 rfl (fun l => k_J5_isLatin1 (f0.ext EB) l hw) (As := []) (rest := []) rfl (Strg.xc (f0.ext EB)) rfl (lw_V q604 q605 q606 q136 q607) hy_J5_isLatin1 rfl rfl (Nat.le_of_ble_eq_true rfl) (Nat.le_of_ble_eq_true rfl) (Nat.le_of_ble_eq_true rfl) (kkI (fun r17 m17 E17 hw => ?_))
      have hw := hw E17
      refine x_if_eq HE 33 dJ5_hashCode_20 (by decide) (fun c20 => ?_) (fun c20 => ?_)
      · have hw := hw.1 c20
        refine x_aload_n HE 0 dJ5_hashCode_33 rfl rfl ?_
        refine x_gStr0 HE dJ5_hashCode_34 q560 (Or.inl rfl) (f0.ext (EB.tr E17)) rfl ?_
        exact hw.elim
      · have hw := hw.2 c20
        refine x_aload_n HE 0 dJ5_hashCode_23 rfl rfl ?_
        refine x_gStr0 HE dJ5_hashCode_24 q560 (Or.inl rfl) (f0.ext (EB.tr E17)) rfl ?_
        refine x_callS HE dJ5_hashCode_27 rfl (fun l => k_J10_hashCode  l hw) (As := [rV (hF m17 x0 0)]) (rest := []) rfl (lw_S q608 q609 q142 q610) hy_J10_hashCode.2 rfl rfl (Nat.le_of_ble_eq_true rfl) (Nat.le_of_ble_eq_true rfl) (Nat.le_of_ble_eq_true rfl) (kkI (fun r27 m27 E27 hw => ?_))
        have hw := hw E27
        refine x_goto HE 40 dJ5_hashCode_30 (by decide) ?_
        refine x_istore_n HE 1 (lo' := [some (rV x0), some (iV r27)]) dJ5_hashCode_40 rfl (Nat.le_of_ble_eq_true rfl) rfl ?_
        refine x_iload_n HE 1 dJ5_hashCode_41 rfl rfl ?_
        refine x_if_ne HE 53 dJ5_hashCode_42 (by decide) (fun c42 => ?_) (fun c42 => ?_)
        · have hw := hw.1 c42
          refine x_aload_n HE 0 dJ5_hashCode_53 rfl rfl ?_
          refine x_iload_n HE 1 dJ5_hashCode_54 rfl rfl ?_
          obtain ⟨v55, hw⟩ := hw
          refine x_pI HE dJ5_hashCode_55 fd_J5_2 q562 (Or.inl rfl) (Or.inl rfl) (nf_int _) v55 (nro (by decide)) (Or.inl nf_J5_2) (fun m55 em55 E55 => ?_)
          have hw := hw m55 em55
          exact w_J5_hashCode_58 HE hr f0 hw
        · have hw := hw.2 c42
          refine x_aload_n HE 0 dJ5_hashCode_45 rfl rfl ?_
          refine x_iconst HE dJ5_hashCode_46 (by decide) ?_
          obtain ⟨v47, hw⟩ := hw
          refine x_pI HE dJ5_hashCode_47 fd_J5_3 q563 (Or.inl rfl) (Or.inl rfl) (nf_bool (by decide)) v47 (nro (by decide)) (Or.inl nf_J5_3) (fun m47 em47 E47 => ?_)
          have hw := hw m47 em47
          refine x_goto HE 58 dJ5_hashCode_50 (by decide) ?_
          exact w_J5_hashCode_58 HE hr f0 hw
theorem k_J5_hashCode {G : GT} {x0 : Int} {Q : Int → Hp → Prop} {h : Hp} (f0 : Strg h x0) (l : Launch) (hw : g_J5_hashCode x0 Q h) : XM G l yJ5_hashCode cJ5_hashCode 2 (some .int) 3 69 [rV x0] (QI Q) h :=
  XM.of (by decide) (Nat.le_of_ble_eq_true rfl) (fun X HE hr hn => w_J5_hashCode_0 HE hr f0 hw)
def g_J10_equals_b32 (x0 x1 : Int) (Q : Int → Hp → Prop) (h : Hp) : Prop :=
  Q 1 h
theorem w_J10_equals_32 {G : GT} {X : ET} {h0 : Hp} {x0 x1 : Int} (HE : XE G X cJ10_equals 3 RJ10 0 0 h0) (hr : XR X (some .boolean)) {Q : Int → Hp → Prop} {h : Hp} (hw : g_J10_equals_b32 x0 x1 Q  h) : Wx G X h0 (QI Q) h 32 [some (rV x0), some (rV x1), none] [] := by
  refine Wx.start (fun EB => ?_)
  unfold g_J10_equals_b32 at hw
  refine x_iconst HE dJ10_equals_32 (by decide) ?_
  exact x_zret HE hr dJ10_equals_33 (by decide) hw
def g_J10_equals_b24 (x0 x1 : Int) (Q : Int → Hp → Prop) (h : Hp) : Prop :=
  Q 0 h
theorem w_J10_equals_24 {G : GT} {X : ET} {h0 : Hp} {x0 x1 : Int} (HE : XE G X cJ10_equals 3 RJ10 0 0 h0) (hr : XR X (some .boolean)) {Q : Int → Hp → Prop} {h : Hp} (hw : g_J10_equals_b24 x0 x1 Q  h) : Wx G X h0 (QI Q) h 24 [some (rV x0), some (rV x1), none] [] := by
  refine Wx.start (fun EB => ?_)
  unfold g_J10_equals_b24 at hw
  refine x_iconst HE dJ10_equals_24 (by decide) ?_
  exact x_zret HE hr dJ10_equals_25 (by decide) hw
def g_J10_equals_L9 (x0 x1 : Int) (Q : Int → Hp → Prop) (K9 : Int → Hp → Prop) (l2 : Int) (h : Hp) : Prop :=
  (Byts h x0) ∧ ((((hL h x0) ≤ l2) → (g_J10_equals_b32 x0 x1 Q h)) ∧ ((l2 < (hL h x0)) → (((0 : Int) ≤ l2 ∧ l2 < hL h x0) ∧ ((Byts h x1) ∧ (((0 : Int) ≤ l2 ∧ l2 < hL h x1) ∧ ((((hA h x0 l2) = (hA h x1 l2)) → ((i32 (l2 + 1)) ∧ (∀ y26 : Int, y26 = l2 + 1 → (K9 y26 h)))) ∧ (((hA h x0 l2) ≠ (hA h x1 l2)) → (g_J10_equals_b24 x0 x1 Q h))))))))
theorem w_J10_equals_9 {G : GT} {X : ET} {h0 : Hp} {x0 x1 : Int} (HE : XE G X cJ10_equals 3 RJ10 0 0 h0) (hr : XR X (some .boolean)) {Q : Int → Hp → Prop} {K9 : Int → Hp → Prop} (hK9 : ∀ (l2 : Int) (h : Hp), K9 l2 h → Wx G X h0 (QI Q) h 9 [some (rV x0), some (rV x1), some (iV l2)] []) {l2 : Int} {h : Hp} (hw : g_J10_equals_L9 x0 x1 Q K9 l2 h) : Wx G X h0 (QI Q) h 9 [some (rV x0), some (rV x1), some (iV l2)] [] := by
  refine Wx.start (fun EB => ?_)
  unfold g_J10_equals_L9 at hw
  refine x_iload_n HE 2 dJ10_equals_9 rfl rfl ?_
  refine x_aload_n HE 0 dJ10_equals_10 rfl rfl ?_
  obtain ⟨v11, hw⟩ := hw
  refine x_alenB HE dJ10_equals_11 v11 rfl ?_
  refine x_ic_ge HE 32 dJ10_equals_12 (by decide) (fun c12 => ?_) (fun c12 => ?_)
  · have hw := hw.1 c12
    refine Wx.mask [true, true, false] (lo2 := [some (rV x0), some (rV x1), none]) rfl ?_
    exact w_J10_equals_32 HE hr hw
  · have hw := hw.2 c12
    refine x_aload_n HE 0 dJ10_equals_15 rfl rfl ?_
    refine x_iload_n HE 2 dJ10_equals_16 rfl rfl ?_
    obtain ⟨i17, hw⟩ := hw
    refine x_baldB HE dJ10_equals_17 v11 i17 rfl ?_
    refine x_aload_n HE 1 dJ10_equals_18 rfl rfl ?_
    refine x_iload_n HE 2 dJ10_equals_19 rfl rfl ?_
    obtain ⟨v20, hw⟩ := hw
    obtain ⟨i20, hw⟩ := hw
    refine x_baldB HE dJ10_equals_20 v20 i20 rfl ?_
    refine x_ic_eq HE 26 dJ10_equals_21 (by decide) (fun c21 => ?_) (fun c21 => ?_)
    · have hw := hw.1 c21
      obtain ⟨v26, hw⟩ := hw
      refine x_iincN HE (fun y26 => [some (rV x0), some (rV x1), some (iV y26)]) dJ10_equals_26 rfl v26 (Nat.le_of_ble_eq_true rfl) (fun _ => rfl) (fun y26 ey26 => ?_)
      have hw := hw y26 ey26
      refine x_goto HE 9 dJ10_equals_29 (by decide) ?_
      exact hK9 _ _ hw
    · have hw := hw.2 c21
      refine Wx.mask [true, true, false] (lo2 := [some (rV x0), some (rV x1), none]) rfl ?_
      exact w_J10_equals_24 HE hr hw
theorem wl_J10_equals_9 {G : GT} {X : ET} {h0 : Hp} {x0 x1 : Int} (HE : XE G X cJ10_equals 3 RJ10 0 0 h0) (hr : XR X (some .boolean)) {Q : Int → Hp → Prop} {l2 : Int} {h : Hp} (hw : Lp1 (g_J10_equals_L9 x0 x1 Q) l2 h) : Wx G X h0 (QI Q) h 9 [some (rV x0), some (rV x1), some (iV l2)] [] := by
  obtain ⟨n, hw⟩ := hw
  induction n generalizing l2 h with
  | zero => exact hw.elim
  | succ n ih => exact w_J10_equals_9 HE hr (fun _ _ hk => ih hk) hw
def g_J10_equals (x0 x1 : Int) (Q : Int → Hp → Prop) (h : Hp) : Prop :=
  (Byts h x0) ∧ ((Byts h x1) ∧ ((((hL h x0) ≠ (hL h x1)) → (Q 0 h)) ∧ (((hL h x0) = (hL h x1)) → (Lp1 (g_J10_equals_L9 x0 x1 Q) 0 h))))
theorem w_J10_equals_0 {G : GT} {X : ET} {h0 : Hp} {x0 x1 : Int} (HE : XE G X cJ10_equals 3 RJ10 0 0 h0) (hr : XR X (some .boolean)) {Q : Int → Hp → Prop} {h : Hp} (hw : g_J10_equals x0 x1 Q h) : Wx G X h0 (QI Q) h 0 [some (rV x0), some (rV x1), none] [] := by
  refine Wx.start (fun EB => ?_)
  unfold g_J10_equals at hw
  refine x_aload_n HE 0 dJ10_equals_0 rfl rfl ?_
  obtain ⟨v1, hw⟩ := hw
  refine x_alenB HE dJ10_equals_1 v1 rfl ?_
  refine x_aload_n HE 1 dJ10_equals_2 rfl rfl ?_
  obtain ⟨v3, hw⟩ := hw
  refine x_alenB HE dJ10_equals_3 v3 rfl ?_
  refine x_ic_ne HE 34 dJ10_equals_4 (by decide) (fun c4 => ?_) (fun c4 => ?_)
  · have hw := hw.1 c4
    refine x_iconst HE dJ10_equals_34 (by decide) ?_
    exact x_zret HE hr dJ10_equals_35 (by decide) hw
  · have hw := hw.2 c4
    refine x_iconst HE dJ10_equals_7 (by decide) ?_
    refine x_istore_n HE 2 (lo' := [some (rV x0), some (rV x1), some (iV 0)]) dJ10_equals_8 rfl (Nat.le_of_ble_eq_true rfl) rfl ?_
    exact wl_J10_equals_9 HE hr hw
theorem k_J10_equals {G : GT} {x0 x1 : Int} {Q : Int → Hp → Prop} {h : Hp} (l : Launch) (hw : g_J10_equals x0 x1 Q h) : XM G l yJ10_equals cJ10_equals 3 (some .boolean) 0 0 [rV x0, rV x1] (QI Q) h :=
  XM.of (by decide) (Nat.le_of_ble_eq_true rfl) (fun X HE hr hn => w_J10_equals_0 HE hr  hw)
def g_J5_equals_b55 (x0 x1 : Int) (Q : Int → Hp → Prop) (s0 : Int) (h : Hp) : Prop :=
  (s0 = 0 ∨ s0 = 1) ∧ Q s0 h
theorem w_J5_equals_55 {G : GT} {X : ET} {h0 : Hp} {x0 x1 : Int} (HE : XE G X cJ5_equals 3 RJ5 1 22 h0) (hr : XR X (some .boolean)) (f0 : Strg h0 x0) {Q : Int → Hp → Prop} {s0 : Int} {h : Hp} (hw : g_J5_equals_b55 x0 x1 Q s0 h) : Wx G X h0 (QI Q) h 55 [some (rV x0), some (rV x1), none] [iV s0] := by
  refine Wx.start (fun EB => ?_)
  unfold g_J5_equals_b55 at hw
  exact x_zret HE hr dJ5_equals_55 hw.1 hw.2
def g_J5_equals_b54 (x0 x1 : Int) (Q : Int → Hp → Prop) (h : Hp) : Prop :=
  g_J5_equals_b55 x0 x1 Q 0 h
theorem w_J5_equals_54 {G : GT} {X : ET} {h0 : Hp} {x0 x1 : Int} (HE : XE G X cJ5_equals 3 RJ5 1 22 h0) (hr : XR X (some .boolean)) (f0 : Strg h0 x0) {Q : Int → Hp → Prop} {h : Hp} (hw : g_J5_equals_b54 x0 x1 Q  h) : Wx G X h0 (QI Q) h 54 [some (rV x0), some (rV x1), none] [] := by
  refine Wx.start (fun EB => ?_)
  unfold g_J5_equals_b54 at hw
  refine x_iconst HE dJ5_equals_54 (by decide) ?_
  exact w_J5_equals_55 HE hr f0 hw
def g_J5_equals_b36 (x0 x1 : Int) (Q : Int → Hp → Prop) (l2 : Int) (h : Hp) : Prop :=
  (Strg h l2) ∧ (g_J10_equals (hF h x0 0) (hF h l2 0) (fun r44 m44 => Ext h m44 → (((r44 = 0) → (g_J5_equals_b54 x0 x1 Q m44)) ∧ ((r44 ≠ 0) → (g_J5_equals_b55 x0 x1 Q 1 m44)))) h)
theorem w_J5_equals_36 {G : GT} {X : ET} {h0 : Hp} {x0 x1 : Int} (HE : XE G X cJ5_equals 3 RJ5 1 22 h0) (hr : XR X (some .boolean)) (f0 : Strg h0 x0) {Q : Int → Hp → Prop} {l2 : Int} {h : Hp} (hw : g_J5_equals_b36 x0 x1 Q l2 h) : Wx G X h0 (QI Q) h 36 [some (rV x0), some (rV x1), some (rV l2)] [] := by
  refine Wx.start (fun EB => ?_)
  unfold g_J5_equals_b36 at hw
  refine x_aload_n HE 0 dJ5_equals_36 rfl rfl ?_
  refine x_gStr0 HE dJ5_equals_37 q560 (Or.inl rfl) (f0.ext EB) rfl ?_
  refine x_aload_n HE 2 dJ5_equals_40 rfl rfl ?_
  obtain ⟨v41, hw⟩ := hw
  refine x_gStr0 HE dJ5_equals_41 q560 (Or.inl rfl) v41 rfl ?_
  refine x_callS HE dJ5_equals_44 rfl (fun l => k_J10_equals  l hw) (As := [rV (hF h x0 0), rV (hF h l2 0)]) (rest := []) rfl (lw_S q659 q660 q142 q661) hy_J10_equals.2 rfl rfl (Nat.le_of_ble_eq_true rfl) (Nat.le_of_ble_eq_true rfl) (Nat.le_of_ble_eq_true rfl) (kkI (fun r44 m44 E44 hw => ?_))
  have hw := hw E44
  refine x_if_eq HE 54 dJ5_equals_47 (by decide) (fun c47 => ?_) (fun c47 => ?_)
  · have hw := hw.1 c47
    refine Wx.mask [true, true, false] (lo2 := [some (rV x0), some (rV x1), none]) rfl ?_
    exact w_J5_equals_54 HE hr f0 hw
  · have hw := hw.2 c47
    refine x_iconst HE dJ5_equals_50 (by decide) ?_
    refine x_goto HE 55 dJ5_equals_51 (by decide) ?_
    refine Wx.mask [true, true, false] (lo2 := [some (rV x0), some (rV x1), none]) rfl ?_
    exact w_J5_equals_55 HE hr f0 hw
def g_J5_equals (x0 x1 : Int) (Q : Int → Hp → Prop) (h : Hp) : Prop :=
  ((x0 ≠ x1) → ((Strg h x1) ∧ ((((1 : Int) = 0) → (g_J5_equals_b54 x0 x1 Q h)) ∧ (((1 : Int) ≠ 0) → ((((1 : Int) = 0) → (g_J5_equals_b36 x0 x1 Q x1 h)) ∧ (((1 : Int) ≠ 0) → ((((hF h x0 1) ≠ (hF h x1 1)) → (g_J5_equals_b54 x0 x1 Q h)) ∧ (((hF h x0 1) = (hF h x1 1)) → (g_J5_equals_b36 x0 x1 Q x1 h))))))))) ∧ ((x0 = x1) → (Q 1 h))
theorem w_J5_equals_0 {G : GT} {X : ET} {h0 : Hp} {x0 x1 : Int} (HE : XE G X cJ5_equals 3 RJ5 1 22 h0) (hr : XR X (some .boolean)) (f0 : Strg h0 x0) {Q : Int → Hp → Prop} {h : Hp} (hw : g_J5_equals x0 x1 Q h) : Wx G X h0 (QI Q) h 0 [some (rV x0), some (rV x1), none] [] := by
  refine Wx.start (fun EB => ?_)
  unfold g_J5_equals at hw
  refine x_aload_n HE 0 dJ5_equals_0 rfl rfl ?_
  refine x_aload_n HE 1 dJ5_equals_1 rfl rfl ?_
  refine x_ac_ne HE 7 dJ5_equals_2 (by decide) (fun c2 => ?_) (fun c2 => ?_)
  · have hw := hw.1 c2
    refine x_aload_n HE 1 dJ5_equals_7 rfl rfl ?_
    obtain ⟨v8, hw⟩ := hw
    refine x_instS HE dJ5_equals_8 (Strg.xc v8) q658 rfl ?_
    refine x_if_eq HE 54 dJ5_equals_11 (by decide) (fun c11 => ?_) (fun c11 => ?_)
    · have hw := hw.1 c11
      exact w_J5_equals_54 HE hr f0 hw
    · have hw := hw.2 c11
      refine x_aload_n HE 1 dJ5_equals_14 rfl rfl ?_
      refine x_castS HE dJ5_equals_15 (Strg.xc v8) q658 rfl ?_
      refine x_astore_n HE 2 (lo' := [some (rV x0), some (rV x1), some (rV x1)]) dJ5_equals_18 rfl (Nat.le_of_ble_eq_true rfl) rfl ?_
      refine x_getCS HE dJ5_equals_19 q546 ?_
      refine x_if_eq HE 36 dJ5_equals_22 (by decide) (fun c22 => ?_) (fun c22 => ?_)
      · have hw := hw.1 c22
        exact w_J5_equals_36 HE hr f0 hw
      · have hw := hw.2 c22
        refine x_aload_n HE 0 dJ5_equals_25 rfl rfl ?_
        refine x_gStr1 HE dJ5_equals_26 q561 (Or.inl rfl) (f0.ext EB) rfl ?_
        refine x_aload_n HE 2 dJ5_equals_29 rfl rfl ?_
        refine x_gStr1 HE dJ5_equals_30 q561 (Or.inl rfl) v8 rfl ?_
        refine x_ic_ne HE 54 dJ5_equals_33 (by decide) (fun c33 => ?_) (fun c33 => ?_)
        · have hw := hw.1 c33
          refine Wx.mask [true, true, false] (lo2 := [some (rV x0), some (rV x1), none]) rfl ?_
          exact w_J5_equals_54 HE hr f0 hw
        · have hw := hw.2 c33
          exact w_J5_equals_36 HE hr f0 hw
  · have hw := hw.2 c2
    refine x_iconst HE dJ5_equals_5 (by decide) ?_
    exact x_zret HE hr dJ5_equals_6 (by decide) hw
theorem k_J5_equals {G : GT} {x0 x1 : Int} {Q : Int → Hp → Prop} {h : Hp} (f0 : Strg h x0) (l : Launch) (hw : g_J5_equals x0 x1 Q h) : XM G l yJ5_equals cJ5_equals 3 (some .boolean) 1 22 [rV x0, rV x1] (QI Q) h :=
  XM.of (by decide) (Nat.le_of_ble_eq_true rfl) (fun X HE hr hn => w_J5_equals_0 HE hr f0 hw)
def g_J2_size (x0 : Int) (Q : Int → Hp → Prop) (h : Hp) : Prop :=
  Q (hF h x0 2) h
theorem w_J2_size_0 {G : GT} {X : ET} {h0 : Hp} {x0 : Int} (HE : XE G X cJ2_size 1 RJ2 0 0 h0) (hr : XR X (some .int)) (f0 : hT h0 x0 = 32) {Q : Int → Hp → Prop} {h : Hp} (hw : g_J2_size x0 Q h) : Wx G X h0 (QI Q) h 0 [some (rV x0)] [] := by
  refine Wx.start (fun EB => ?_)
  unfold g_J2_size at hw
  refine x_aload_n HE 0 dJ2_size_0 rfl rfl ?_
  refine x_gI HE dJ2_size_1 fd_J2_2 q211 (Or.inl rfl) (EB.tag f0 (by decide)) rfl ?_
  exact x_iret HE hr dJ2_size_4 hw
theorem k_J2_size {G : GT} {x0 : Int} {Q : Int → Hp → Prop} {h : Hp} (f0 : hT h x0 = 32) (l : Launch) (hw : g_J2_size x0 Q h) : XM G l yJ2_size cJ2_size 1 (some .int) 0 0 [rV x0] (QI Q) h :=
  XM.of (by decide) (Nat.le_of_ble_eq_true rfl) (fun X HE hr hn => w_J2_size_0 HE hr f0 hw)
def g_J11_checkIndex_b9 (x0 x1 x2 : Int) (Q : Int → Hp → Prop) (h : Hp) : Prop :=
  False
theorem w_J11_checkIndex_9 {G : GT} {X : ET} {h0 : Hp} {x0 x1 x2 : Int} (HE : XE G X cJ11_checkIndex 3 RJ11 0 0 h0) (hr : XR X (some .int)) {Q : Int → Hp → Prop} {h : Hp} (hw : g_J11_checkIndex_b9 x0 x1 x2 Q  h) : Wx G X h0 (QI Q) h 9 [some (iV x0), some (iV x1), some (rV x2)] [] := by
  refine Wx.start (fun EB => ?_)
  unfold g_J11_checkIndex_b9 at hw
  refine x_aload_n HE 2 dJ11_checkIndex_9 rfl rfl ?_
  refine x_iload_n HE 0 dJ11_checkIndex_10 rfl rfl ?_
  refine x_iload_n HE 1 dJ11_checkIndex_11 rfl rfl ?_
  exact hw.elim
def g_J11_checkIndex (x0 x1 x2 : Int) (Q : Int → Hp → Prop) (h : Hp) : Prop :=
  ((x0 < 0) → (g_J11_checkIndex_b9 x0 x1 x2 Q h)) ∧ ((0 ≤ x0) → (((x0 < x1) → (Q x0 h)) ∧ ((x1 ≤ x0) → (g_J11_checkIndex_b9 x0 x1 x2 Q h))))
theorem w_J11_checkIndex_0 {G : GT} {X : ET} {h0 : Hp} {x0 x1 x2 : Int} (HE : XE G X cJ11_checkIndex 3 RJ11 0 0 h0) (hr : XR X (some .int)) {Q : Int → Hp → Prop} {h : Hp} (hw : g_J11_checkIndex x0 x1 x2 Q h) : Wx G X h0 (QI Q) h 0 [some (iV x0), some (iV x1), some (rV x2)] [] := by
  refine Wx.start (fun EB => ?_)
  unfold g_J11_checkIndex at hw
  refine x_iload_n HE 0 dJ11_checkIndex_0 rfl rfl ?_
  refine x_if_lt HE 9 dJ11_checkIndex_1 (by decide) (fun c1 => ?_) (fun c1 => ?_)
  · have hw := hw.1 c1
    exact w_J11_checkIndex_9 HE hr hw
  · have hw := hw.2 c1
    refine x_iload_n HE 0 dJ11_checkIndex_4 rfl rfl ?_
    refine x_iload_n HE 1 dJ11_checkIndex_5 rfl rfl ?_
    refine x_ic_lt HE 16 dJ11_checkIndex_6 (by decide) (fun c6 => ?_) (fun c6 => ?_)
    · have hw := hw.1 c6
      refine x_iload_n HE 0 dJ11_checkIndex_16 rfl rfl ?_
      exact x_iret HE hr dJ11_checkIndex_17 hw
    · have hw := hw.2 c6
      exact w_J11_checkIndex_9 HE hr hw
theorem k_J11_checkIndex {G : GT} {x0 x1 x2 : Int} {Q : Int → Hp → Prop} {h : Hp} (l : Launch) (hw : g_J11_checkIndex x0 x1 x2 Q h) : XM G l yJ11_checkIndex cJ11_checkIndex 3 (some .int) 0 0 [iV x0, iV x1, rV x2] (QI Q) h :=
  XM.of (by decide) (Nat.le_of_ble_eq_true rfl) (fun X HE hr hn => w_J11_checkIndex_0 HE hr  hw)
def g_J12_checkIndex (x0 x1 : Int) (Q : Int → Hp → Prop) (h : Hp) : Prop :=
  g_J11_checkIndex x0 x1 0 (fun r3 m3 => Ext h m3 → (Q r3 m3)) h
theorem w_J12_checkIndex_0 {G : GT} {X : ET} {h0 : Hp} {x0 x1 : Int} (HE : XE G X cJ12_checkIndex 2 RJ12 1 22 h0) (hr : XR X (some .int)) {Q : Int → Hp → Prop} {h : Hp} (hw : g_J12_checkIndex x0 x1 Q h) : Wx G X h0 (QI Q) h 0 [some (iV x0), some (iV x1)] [] := by
  refine Wx.start (fun EB => ?_)
  unfold g_J12_checkIndex at hw
  refine x_iload_n HE 0 dJ12_checkIndex_0 rfl rfl ?_
  refine x_iload_n HE 1 dJ12_checkIndex_1 rfl rfl ?_
  refine x_null HE dJ12_checkIndex_2 ?_
  refine x_callS HE dJ12_checkIndex_3 rfl (fun l => k_J11_checkIndex  l hw) (As := [iV x0, iV x1, rV 0]) (rest := []) rfl (lw_S q742 q508 q143 q509) hy_J11_checkIndex.2 rfl rfl (Nat.le_of_ble_eq_true rfl) (Nat.le_of_ble_eq_true rfl) (Nat.le_of_ble_eq_true rfl) (kkI (fun r3 m3 E3 hw => ?_))
  have hw := hw E3
  exact x_iret HE hr dJ12_checkIndex_6 hw
theorem k_J12_checkIndex {G : GT} {x0 x1 : Int} {Q : Int → Hp → Prop} {h : Hp} (l : Launch) (hw : g_J12_checkIndex x0 x1 Q h) : XM G l yJ12_checkIndex cJ12_checkIndex 2 (some .int) 1 22 [iV x0, iV x1] (QI Q) h :=
  XM.of (by decide) (Nat.le_of_ble_eq_true rfl) (fun X HE hr hn => w_J12_checkIndex_0 HE hr  hw)
def g_J2_elementData (x0 x1 : Int) (Q : Int → Hp → Prop) (h : Hp) : Prop :=
  (hT h (hF h x0 1) = 5) ∧ (((0 : Int) ≤ x1 ∧ x1 < hL h (hF h x0 1)) ∧ (Q (hA h (hF h x0 1) x1) h))
theorem w_J2_elementData_0 {G : GT} {X : ET} {h0 : Hp} {x0 x1 : Int} (HE : XE G X cJ2_elementData 2 RJ2 0 0 h0) (hr : XR X (some (.object "java/lang/Object"))) (f0 : hT h0 x0 = 32) {Q : Int → Hp → Prop} {h : Hp} (hw : g_J2_elementData x0 x1 Q h) : Wx G X h0 (QR Q) h 0 [some (rV x0), some (iV x1)] [] := by
  refine Wx.start (fun EB => ?_)
  unfold g_J2_elementData at hw
  refine x_aload_n HE 0 dJ2_elementData_0 rfl rfl ?_
  refine x_gR HE dJ2_elementData_1 fd_J2_1 q210 (Or.inl rfl) (EB.tag f0 (by decide)) rfl ?_
  refine x_iload_n HE 1 dJ2_elementData_4 rfl rfl ?_
  obtain ⟨v5, hw⟩ := hw
  obtain ⟨i5, hw⟩ := hw
  refine x_aald HE dJ2_elementData_5 (t := 5) (by decide) v5 i5 rfl ?_
  exact x_aret HE hr (Or.inl ⟨_, rfl⟩) dJ2_elementData_6 hw
theorem k_J2_elementData {G : GT} {x0 x1 : Int} {Q : Int → Hp → Prop} {h : Hp} (f0 : hT h x0 = 32) (l : Launch) (hw : g_J2_elementData x0 x1 Q h) : XM G l yJ2_elementData cJ2_elementData 2 (some (.object "java/lang/Object")) 0 0 [rV x0, iV x1] (QR Q) h :=
  XM.of (by decide) (Nat.le_of_ble_eq_true rfl) (fun X HE hr hn => w_J2_elementData_0 HE hr f0 hw)
def g_J2_get (x0 x1 : Int) (Q : Int → Hp → Prop) (h : Hp) : Prop :=
  g_J12_checkIndex x1 (hF h x0 2) (fun r5 m5 => Ext h m5 → (g_J2_elementData x0 x1 (fun r11 m11 => Ext m5 m11 → (Q r11 m11)) m5)) h
theorem w_J2_get_0 {G : GT} {X : ET} {h0 : Hp} {x0 x1 : Int} (HE : XE G X cJ2_get 2 RJ2 2 43 h0) (hr : XR X (some (.object "java/lang/Object"))) (f0 : hT h0 x0 = 32) {Q : Int → Hp → Prop} {h : Hp} (hw : g_J2_get x0 x1 Q h) : Wx G X h0 (QR Q) h 0 [some (rV x0), some (iV x1)] [] := by
  refine Wx.start (fun EB => ?_)
  unfold g_J2_get at hw
  refine x_iload_n HE 1 dJ2_get_0 rfl rfl ?_
  refine x_aload_n HE 0 dJ2_get_1 rfl rfl ?_
  refine x_gI HE dJ2_get_2 fd_J2_2 q211 (Or.inl rfl) (EB.tag f0 (by decide)) rfl ?_
  refine x_callS HE dJ2_get_5 rfl (fun l => k_J12_checkIndex  l hw) (As := [iV x1, iV (hF h x0 2)]) (rest := []) rfl (lw_S q739 q740 q144 q741) hy_J12_checkIndex.2 rfl rfl (Nat.le_of_ble_eq_true rfl) (Nat.le_of_ble_eq_true rfl) (Nat.le_of_ble_eq_true rfl) (kkI (fun r5 m5 E5 hw => ?_))
  have hw := hw E5
  refine x_pop HE dJ2_get_8 (fun o => o) ?_
  refine x_aload_n HE 0 dJ2_get_9 rfl rfl ?_
  refine x_iload_n HE 1 dJ2_get_10 rfl rfl ?_
  refine x_callV HE dJ2_get_11 rfl (fun l => k_J2_elementData ((EB.tr E5).tag f0 (by decide)) l hw) (As := [iV x1]) (rest := []) rfl xc32 ((EB.tr E5).tag f0 (by decide)) (lw_V q743 q744 q745 q128 q746) hy_J2_elementData rfl rfl (Nat.le_of_ble_eq_true rfl) (Nat.le_of_ble_eq_true rfl) (Nat.le_of_ble_eq_true rfl) (kkR (fun r11 m11 E11 hw => ?_))
  have hw := hw E11
  exact x_aret HE hr (Or.inl ⟨_, rfl⟩) dJ2_get_14 hw
theorem k_J2_get {G : GT} {x0 x1 : Int} {Q : Int → Hp → Prop} {h : Hp} (f0 : hT h x0 = 32) (l : Launch) (hw : g_J2_get x0 x1 Q h) : XM G l yJ2_get cJ2_get 2 (some (.object "java/lang/Object")) 2 43 [rV x0, iV x1] (QR Q) h :=
  XM.of (by decide) (Nat.le_of_ble_eq_true rfl) (fun X HE hr hn => w_J2_get_0 HE hr f0 hw)
def g_J7_newLength_b21 (x0 x1 x2 : Int) (Q : Int → Hp → Prop) (h : Hp) : Prop :=
  False
theorem w_J7_newLength_21 {G : GT} {X : ET} {h0 : Hp} {x0 x1 x2 : Int} (HE : XE G X cJ7_newLength 4 RJ7 1 30 h0) (hr : XR X (some .int)) {Q : Int → Hp → Prop} {h : Hp} (hw : g_J7_newLength_b21 x0 x1 x2 Q  h) : Wx G X h0 (QI Q) h 21 [some (iV x0), some (iV x1), some (iV x2), none] [] := by
  refine Wx.start (fun EB => ?_)
  unfold g_J7_newLength_b21 at hw
  refine x_iload_n HE 0 dJ7_newLength_21 rfl rfl ?_
  refine x_iload_n HE 1 dJ7_newLength_22 rfl rfl ?_
  exact hw.elim
def g_J7_newLength (x0 x1 x2 : Int) (Q : Int → Hp → Prop) (h : Hp) : Prop :=
  (i32 (x0 + (if x1 < x2 then x2 else x1))) ∧ (∀ y7 : Int, y7 = (x0 + (if x1 < x2 then x2 else x1)) → (((y7 ≤ 0) → (g_J7_newLength_b21 x0 x1 x2 Q h)) ∧ ((0 < y7) → (((2147483639 < y7) → (g_J7_newLength_b21 x0 x1 x2 Q h)) ∧ ((y7 ≤ 2147483639) → (Q y7 h))))))
theorem w_J7_newLength_0 {G : GT} {X : ET} {h0 : Hp} {x0 x1 x2 : Int} (HE : XE G X cJ7_newLength 4 RJ7 1 30 h0) (hr : XR X (some .int)) {Q : Int → Hp → Prop} {h : Hp} (hw : g_J7_newLength x0 x1 x2 Q h) : Wx G X h0 (QI Q) h 0 [some (iV x0), some (iV x1), some (iV x2), none] [] := by
  refine Wx.start (fun EB => ?_)
  unfold g_J7_newLength at hw
  refine x_iload_n HE 0 dJ7_newLength_0 rfl rfl ?_
  refine x_iload_n HE 1 dJ7_newLength_1 rfl rfl ?_
  refine x_iload_n HE 2 dJ7_newLength_2 rfl rfl ?_
  refine x_mmax HE dJ7_newLength_3 rfl q433 q434 q139 q435 (Nat.le_of_ble_eq_true rfl) (Nat.le_of_ble_eq_true rfl) (Nat.le_of_ble_eq_true rfl) ?_
  obtain ⟨v6, hw⟩ := hw
  refine x_iadd HE dJ7_newLength_6 v6 ?_
  refine x_istore_nN HE 3 (fun y7 => [some (iV x0), some (iV x1), some (iV x2), some (iV y7)]) dJ7_newLength_7 rfl (Nat.le_of_ble_eq_true rfl) (fun _ => rfl) (fun y7 ey7 => ?_)
  have hw := hw y7 ey7
  refine x_iconst HE dJ7_newLength_8 (by decide) ?_
  refine x_iload_n HE 3 dJ7_newLength_9 rfl rfl ?_
  refine x_ic_ge HE 21 dJ7_newLength_10 (by decide) (fun c10 => ?_) (fun c10 => ?_)
  · have hw := hw.1 c10
    refine Wx.mask [true, true, true, false] (lo2 := [some (iV x0), some (iV x1), some (iV x2), none]) rfl ?_
    exact w_J7_newLength_21 HE hr hw
  · have hw := hw.2 c10
    refine x_iload_n HE 3 dJ7_newLength_13 rfl rfl ?_
    refine x_ldcI (n := 2147483639) HE dJ7_newLength_14 q436 (by unfold i32; decide) rfl ?_
    refine x_ic_gt HE 21 dJ7_newLength_16 (by decide) (fun c16 => ?_) (fun c16 => ?_)
    · have hw := hw.1 c16
      refine Wx.mask [true, true, true, false] (lo2 := [some (iV x0), some (iV x1), some (iV x2), none]) rfl ?_
      exact w_J7_newLength_21 HE hr hw
    · have hw := hw.2 c16
      refine x_iload_n HE 3 dJ7_newLength_19 rfl rfl ?_
      exact x_iret HE hr dJ7_newLength_20 hw
theorem k_J7_newLength {G : GT} {x0 x1 x2 : Int} {Q : Int → Hp → Prop} {h : Hp} (l : Launch) (hw : g_J7_newLength x0 x1 x2 Q h) : XM G l yJ7_newLength cJ7_newLength 4 (some .int) 1 30 [iV x0, iV x1, iV x2] (QI Q) h :=
  XM.of (by decide) (Nat.le_of_ble_eq_true rfl) (fun X HE hr hn => w_J7_newLength_0 HE hr  hw)
def g_J9_copyOf_3 (x0 x1 x2 : Int) (Q : Int → Hp → Prop) (h : Hp) : Prop :=
  ((x2 ≠ (hF h 0 33)) → (False)) ∧ ((x2 = (hF h 0 33)) → ((0 ≤ x1 ∧ x1 ≤ 67108864) ∧ ((capOK h x1) ∧ (∀ (a7 : Int) (m7 : Hp), a7 = hN h → m7 = alloc h 5 x1 x1 → WFa h → ((hT m7 x0 = 5) ∧ (((0 : Int) ≤ 0 ∧ (0 : Int) ≤ 0 ∧ (0 : Int) ≤ (if x1 < (hL m7 x0) then x1 else (hL m7 x0))) ∧ (((0 : Int) + (if x1 < (hL m7 x0) then x1 else (hL m7 x0)) ≤ hL m7 x0) ∧ (((0 : Int) + (if x1 < (hL m7 x0) then x1 else (hL m7 x0)) ≤ x1) ∧ ((∀ i : Int, 0 ≤ i → i < 0 + (if x1 < (hL m7 x0) then x1 else (hL m7 x0)) → hA m7 x0 i = 0 ∨ (5, hT m7 (hA m7 x0 i)) ∈ xTak) ∧ (∀ m35 : Hp, m35 = putA m7 a7 (cpyA (hA m7 x0) (hA m7 a7) 0 0 (if x1 < (hL m7 x0) then x1 else (hL m7 x0))) → (Q a7 m35)))))))))))
theorem w_J9_copyOf_3_0 {G : GT} {X : ET} {h0 : Hp} {x0 x1 x2 : Int} (HE : XE G X cJ9_copyOf_3 4 RJ9 1 60 h0) (hr : XR X (some (.array (.object "java/lang/Object")))) {Q : Int → Hp → Prop} {h : Hp} (hw : g_J9_copyOf_3 x0 x1 x2 Q h) : Wx G X h0 (QR Q) h 0 [some (rV x0), some (iV x1), some (rV x2), none] [] := by
  refine Wx.start (fun EB => ?_)
  unfold g_J9_copyOf_3 at hw
  refine x_aload_n HE 2 dJ9_copyOf_3_0 rfl rfl ?_
  refine x_ldcM HE dJ9_copyOf_3_1 q837 ?_
  refine x_ac_ne HE 13 dJ9_copyOf_3_3 (by decide) (fun c3 => ?_) (fun c3 => ?_)
  · have hw := hw.1 c3
    refine x_aload_n HE 2 dJ9_copyOf_3_13 rfl rfl ?_
    exact hw.elim
  · have hw := hw.2 c3
    refine x_iload_n HE 1 dJ9_copyOf_3_6 rfl rfl ?_
    obtain ⟨b7, hw⟩ := hw
    obtain ⟨v7, hw⟩ := hw
    refine x_anewN (t := 5) HE dJ9_copyOf_3_7 (by decide) q839 b7 v7 (fun a7 m7 ea7 em7 E7 w7 => ?_)
    have hw := hw a7 m7 ea7 em7 w7
    have t7 := alloc_tag ea7 em7
    have l7 := alloc_len ea7 em7
    refine x_goto HE 24 dJ9_copyOf_3_10 (by decide) ?_
    refine x_astore_n HE 3 (lo' := [some (rV x0), some (iV x1), some (rV x2), some (rV a7)]) dJ9_copyOf_3_24 rfl (Nat.le_of_ble_eq_true rfl) rfl ?_
    refine x_aload_n HE 0 dJ9_copyOf_3_25 rfl rfl ?_
    refine x_iconst HE dJ9_copyOf_3_26 (by decide) ?_
    refine x_aload_n HE 3 dJ9_copyOf_3_27 rfl rfl ?_
    refine x_iconst HE dJ9_copyOf_3_28 (by decide) ?_
    refine x_aload_n HE 0 dJ9_copyOf_3_29 rfl rfl ?_
    obtain ⟨v30, hw⟩ := hw
    refine x_alen HE dJ9_copyOf_3_30 (t := 5) (ty := .object "java/lang/Object") (by simp [xAr]) v30 rfl ?_
    refine x_iload_n HE 1 dJ9_copyOf_3_31 rfl rfl ?_
    refine x_mmin HE dJ9_copyOf_3_32 rfl q451 q452 q139 q453 (Nat.le_of_ble_eq_true rfl) (Nat.le_of_ble_eq_true rfl) (Nat.le_of_ble_eq_true rfl) ?_
    obtain ⟨p35, hw⟩ := hw
    obtain ⟨q35, hw⟩ := hw
    obtain ⟨r35, hw⟩ := hw
    obtain ⟨s35, hw⟩ := hw
    refine x_cpy (t := 5) (ty := .object "java/lang/Object") HE dJ9_copyOf_3_35 rfl q454 q456 q455 q141 (by simp [xAr]) (by unfold roT; omega) v30 t7 p35 q35 (by rw [l7]; exact r35) (fun i i1 i2 => ⟨(nf_obj "java/lang/Object" _).2, (fun _ => (s35 i i1 i2).imp id (fun z => ⟨_, rfl, z⟩)), by decide⟩) (Nat.le_of_ble_eq_true rfl) (Nat.le_of_ble_eq_true rfl) (by decide +kernel) (fun m35 em35 E35 => ?_)
    have hw := hw m35 em35
    refine x_aload_n HE 3 dJ9_copyOf_3_38 rfl rfl ?_
    exact x_aret HE hr (Or.inr ⟨_, rfl⟩) dJ9_copyOf_3_39 hw
theorem k_J9_copyOf_3 {G : GT} {x0 x1 x2 : Int} {Q : Int → Hp → Prop} {h : Hp} (l : Launch) (hw : g_J9_copyOf_3 x0 x1 x2 Q h) : XM G l yJ9_copyOf_3 cJ9_copyOf_3 4 (some (.array (.object "java/lang/Object"))) 1 60 [rV x0, iV x1, rV x2] (QR Q) h :=
  XM.of (by decide) (Nat.le_of_ble_eq_true rfl) (fun X HE hr hn => w_J9_copyOf_3_0 HE hr  hw)
def g_J9_copyOf_2 (x0 x1 : Int) (Q : Int → Hp → Prop) (h : Hp) : Prop :=
  (hT h x0 = 5) ∧ (g_J9_copyOf_3 x0 x1 (hF h 0 33) (fun r6 m6 => Ext h m6 → (Q r6 m6)) h)
theorem w_J9_copyOf_2_0 {G : GT} {X : ET} {h0 : Hp} {x0 x1 : Int} (HE : XE G X cJ9_copyOf_2 2 RJ9 2 83 h0) (hr : XR X (some (.array (.object "java/lang/Object")))) {Q : Int → Hp → Prop} {h : Hp} (hw : g_J9_copyOf_2 x0 x1 Q h) : Wx G X h0 (QR Q) h 0 [some (rV x0), some (iV x1)] [] := by
  refine Wx.start (fun EB => ?_)
  unfold g_J9_copyOf_2 at hw
  refine x_aload_n HE 0 dJ9_copyOf_2_0 rfl rfl ?_
  refine x_iload_n HE 1 dJ9_copyOf_2_1 rfl rfl ?_
  refine x_aload_n HE 0 dJ9_copyOf_2_2 rfl rfl ?_
  obtain ⟨v3, hw⟩ := hw
  refine x_getC HE dJ9_copyOf_2_3 rfl q803 q2542 q804 q833 v3 (Nat.le_of_ble_eq_true rfl) (Nat.le_of_ble_eq_true rfl) (Nat.le_of_ble_eq_true rfl) ?_
  refine x_callS HE dJ9_copyOf_2_6 rfl (fun l => k_J9_copyOf_3  l hw) (As := [rV x0, iV x1, rV (hF h 0 33)]) (rest := []) rfl (lw_S q834 q835 q140 q836) hy_J9_copyOf_3.2 rfl rfl (Nat.le_of_ble_eq_true rfl) (Nat.le_of_ble_eq_true rfl) (Nat.le_of_ble_eq_true rfl) (kkR (fun r6 m6 E6 hw => ?_))
  have hw := hw E6
  exact x_aret HE hr (Or.inr ⟨_, rfl⟩) dJ9_copyOf_2_9 hw
theorem k_J9_copyOf_2 {G : GT} {x0 x1 : Int} {Q : Int → Hp → Prop} {h : Hp} (l : Launch) (hw : g_J9_copyOf_2 x0 x1 Q h) : XM G l yJ9_copyOf_2 cJ9_copyOf_2 2 (some (.array (.object "java/lang/Object"))) 2 83 [rV x0, iV x1] (QR Q) h :=
  XM.of (by decide) (Nat.le_of_ble_eq_true rfl) (fun X HE hr hn => w_J9_copyOf_2_0 HE hr  hw)
def g_J2_grow_2_b20 (x0 x1 : Int) (Q : Int → Hp → Prop) (l2 : Int) (h : Hp) : Prop :=
  (i32 (x1 - l2)) ∧ (g_J7_newLength l2 (x1 - l2) (bShr l2 1) (fun r27 m27 => Ext h m27 → (g_J9_copyOf_2 (hF m27 x0 1) r27 (fun r37 m37 => Ext m27 m37 → (∀ m41 : Hp, m41 = setF m37 x0 1 r37 → (Q r37 m41))) m27)) h)
theorem w_J2_grow_2_20 {G : GT} {X : ET} {h0 : Hp} {x0 x1 : Int} (HE : XE G X cJ2_grow_2 4 RJ2 3 104 h0) (hr : XR X (some (.array (.object "java/lang/Object")))) (f0 : hT h0 x0 = 32) {Q : Int → Hp → Prop} {l2 : Int} {h : Hp} (hw : g_J2_grow_2_b20 x0 x1 Q l2 h) : Wx G X h0 (QR Q) h 20 [some (rV x0), some (iV x1), some (iV l2), none] [] := by
  refine Wx.start (fun EB => ?_)
  unfold g_J2_grow_2_b20 at hw
  refine x_iload_n HE 2 dJ2_grow_2_20 rfl rfl ?_
  refine x_iload_n HE 1 dJ2_grow_2_21 rfl rfl ?_
  refine x_iload_n HE 2 dJ2_grow_2_22 rfl rfl ?_
  obtain ⟨v23, hw⟩ := hw
  refine x_isub HE dJ2_grow_2_23 v23 ?_
  refine x_iload_n HE 2 dJ2_grow_2_24 rfl rfl ?_
  refine x_iconst HE dJ2_grow_2_25 (by decide) ?_
  refine x_ishr HE dJ2_grow_2_26 ?_
  refine x_callS HE dJ2_grow_2_27 rfl (fun l => k_J7_newLength  l hw) (As := [iV l2, iV (x1 - l2), iV (bShr l2 1)]) (rest := []) rfl (lw_S q799 q431 q138 q432) hy_J7_newLength.2 rfl rfl (Nat.le_of_ble_eq_true rfl) (Nat.le_of_ble_eq_true rfl) (Nat.le_of_ble_eq_true rfl) (kkI (fun r27 m27 E27 hw => ?_))
  have hw := hw E27
  refine x_istore_n HE 3 (lo' := [some (rV x0), some (iV x1), some (iV l2), some (iV r27)]) dJ2_grow_2_30 rfl (Nat.le_of_ble_eq_true rfl) rfl ?_
  refine x_aload_n HE 0 dJ2_grow_2_31 rfl rfl ?_
  refine x_aload_n HE 0 dJ2_grow_2_32 rfl rfl ?_
  refine x_gR HE dJ2_grow_2_33 fd_J2_1 q210 (Or.inl rfl) ((EB.tr E27).tag f0 (by decide)) rfl ?_
  refine x_iload_n HE 3 dJ2_grow_2_36 rfl rfl ?_
  refine x_callS HE dJ2_grow_2_37 rfl (fun l => k_J9_copyOf_2  l hw) (As := [rV (hF m27 x0 1), iV r27]) (rest := [rV x0]) rfl (lw_S q800 q801 q140 q802) hy_J9_copyOf_2.2 rfl rfl (Nat.le_of_ble_eq_true rfl) (Nat.le_of_ble_eq_true rfl) (Nat.le_of_ble_eq_true rfl) (kkR (fun r37 m37 E37 hw => ?_))
  have hw := hw E37
  refine x_dup_x1 HE dJ2_grow_2_40 (fun o => o) (fun o => o) ?_
  refine x_pR HE dJ2_grow_2_41 fd_J2_1 q210 (Or.inl rfl) (Or.inl rfl) (nf_arr _ _) ((EB.tr (E27.tr E37)).tag f0 (by decide)) (nro (by decide)) (Or.inl nf_J2_1) (fun m41 em41 E41 => ?_)
  have hw := hw m41 em41
  exact x_aret HE hr (Or.inr ⟨_, rfl⟩) dJ2_grow_2_44 hw
def g_J2_grow_2 (x0 x1 : Int) (Q : Int → Hp → Prop) (h : Hp) : Prop :=
  (Objs h (hF h x0 1)) ∧ (∀ y5 : Int, y5 = (hL h (hF h x0 1)) → (((0 < y5) → (g_J2_grow_2_b20 x0 x1 Q y5 h)) ∧ ((y5 ≤ 0) → ((0 ≤ hF h 0 32) ∧ ((((hF h x0 1) = (hF h 0 32)) → ((0 ≤ (if 10 < x1 then x1 else 10) ∧ (if 10 < x1 then x1 else 10) ≤ 67108864) ∧ ((capOK h (if 10 < x1 then x1 else 10)) ∧ (∀ (a52 : Int) (m52 : Hp), a52 = hN h → m52 = alloc h 5 (if 10 < x1 then x1 else 10) (if 10 < x1 then x1 else 10) → WFa h → (∀ m56 : Hp, m56 = setF m52 x0 1 a52 → (Q a52 m56)))))) ∧ (((hF h x0 1) ≠ (hF h 0 32)) → (g_J2_grow_2_b20 x0 x1 Q y5 h)))))))
theorem w_J2_grow_2_0 {G : GT} {X : ET} {h0 : Hp} {x0 x1 : Int} (HE : XE G X cJ2_grow_2 4 RJ2 3 104 h0) (hr : XR X (some (.array (.object "java/lang/Object")))) (f0 : hT h0 x0 = 32) {Q : Int → Hp → Prop} {h : Hp} (hw : g_J2_grow_2 x0 x1 Q h) : Wx G X h0 (QR Q) h 0 [some (rV x0), some (iV x1), none, none] [] := by
  refine Wx.start (fun EB => ?_)
  unfold g_J2_grow_2 at hw
  refine x_aload_n HE 0 dJ2_grow_2_0 rfl rfl ?_
  refine x_gR HE dJ2_grow_2_1 fd_J2_1 q210 (Or.inl rfl) (EB.tag f0 (by decide)) rfl ?_
  obtain ⟨v4, hw⟩ := hw
  refine x_alenO HE dJ2_grow_2_4 v4 rfl ?_
  refine x_istore_nN HE 2 (fun y5 => [some (rV x0), some (iV x1), some (iV y5), none]) dJ2_grow_2_5 rfl (Nat.le_of_ble_eq_true rfl) (fun _ => rfl) (fun y5 ey5 => ?_)
  have hw := hw y5 ey5
  refine x_iload_n HE 2 dJ2_grow_2_6 rfl rfl ?_
  refine x_if_gt HE 20 dJ2_grow_2_7 (by decide) (fun c7 => ?_) (fun c7 => ?_)
  · have hw := hw.1 c7
    exact w_J2_grow_2_20 HE hr f0 hw
  · have hw := hw.2 c7
    refine x_aload_n HE 0 dJ2_grow_2_10 rfl rfl ?_
    refine x_gR HE dJ2_grow_2_11 fd_J2_1 q210 (Or.inl rfl) (EB.tag f0 (by decide)) rfl ?_
    obtain ⟨v14, hw⟩ := hw
    refine x_getE HE dJ2_grow_2_14 q208 v14 ?_
    refine x_ac_eq HE 45 dJ2_grow_2_17 (by decide) (fun c17 => ?_) (fun c17 => ?_)
    · have hw := hw.1 c17
      refine x_aload_n HE 0 dJ2_grow_2_45 rfl rfl ?_
      refine x_bipush HE dJ2_grow_2_46 (by decide) ?_
      refine x_iload_n HE 1 dJ2_grow_2_48 rfl rfl ?_
      refine x_mmax HE dJ2_grow_2_49 rfl q840 q434 q139 q435 (Nat.le_of_ble_eq_true rfl) (Nat.le_of_ble_eq_true rfl) (Nat.le_of_ble_eq_true rfl) ?_
      obtain ⟨b52, hw⟩ := hw
      obtain ⟨v52, hw⟩ := hw
      refine x_anewN (t := 5) HE dJ2_grow_2_52 (by decide) q841 b52 v52 (fun a52 m52 ea52 em52 E52 w52 => ?_)
      have hw := hw a52 m52 ea52 em52 w52
      have t52 := alloc_tag ea52 em52
      have l52 := alloc_len ea52 em52
      refine x_dup_x1 HE dJ2_grow_2_55 (fun o => o) (fun o => o) ?_
      refine x_pR HE dJ2_grow_2_56 fd_J2_1 q210 (Or.inl rfl) (Or.inl rfl) (nf_arr _ _) ((EB.tr E52).tag f0 (by decide)) (nro (by decide)) (Or.inl nf_J2_1) (fun m56 em56 E56 => ?_)
      have hw := hw m56 em56
      exact x_aret HE hr (Or.inr ⟨_, rfl⟩) dJ2_grow_2_59 hw
    · have hw := hw.2 c17
      exact w_J2_grow_2_20 HE hr f0 hw
theorem k_J2_grow_2 {G : GT} {x0 x1 : Int} {Q : Int → Hp → Prop} {h : Hp} (f0 : hT h x0 = 32) (l : Launch) (hw : g_J2_grow_2 x0 x1 Q h) : XM G l yJ2_grow_2 cJ2_grow_2 4 (some (.array (.object "java/lang/Object"))) 3 104 [rV x0, iV x1] (QR Q) h :=
  XM.of (by decide) (Nat.le_of_ble_eq_true rfl) (fun X HE hr hn => w_J2_grow_2_0 HE hr f0 hw)
def g_J2_grow (x0 : Int) (Q : Int → Hp → Prop) (h : Hp) : Prop :=
  (i32 ((hF h x0 2) + 1)) ∧ (g_J2_grow_2 x0 ((hF h x0 2) + 1) (fun r7 m7 => Ext h m7 → (Q r7 m7)) h)
theorem w_J2_grow_0 {G : GT} {X : ET} {h0 : Hp} {x0 : Int} (HE : XE G X cJ2_grow 1 RJ2 4 127 h0) (hr : XR X (some (.array (.object "java/lang/Object")))) (f0 : hT h0 x0 = 32) {Q : Int → Hp → Prop} {h : Hp} (hw : g_J2_grow x0 Q h) : Wx G X h0 (QR Q) h 0 [some (rV x0)] [] := by
  refine Wx.start (fun EB => ?_)
  unfold g_J2_grow at hw
  refine x_aload_n HE 0 dJ2_grow_0 rfl rfl ?_
  refine x_aload_n HE 0 dJ2_grow_1 rfl rfl ?_
  refine x_gI HE dJ2_grow_2 fd_J2_2 q211 (Or.inl rfl) (EB.tag f0 (by decide)) rfl ?_
  refine x_iconst HE dJ2_grow_5 (by decide) ?_
  obtain ⟨v6, hw⟩ := hw
  refine x_iadd HE dJ2_grow_6 v6 ?_
  refine x_callV HE dJ2_grow_7 rfl (fun l => k_J2_grow_2 (EB.tag f0 (by decide)) l hw) (As := [iV ((hF h x0 2) + 1)]) (rest := []) rfl xc32 (EB.tag f0 (by decide)) (lw_V q795 q797 qs15 q128 q798) hy_J2_grow_2 rfl rfl (Nat.le_of_ble_eq_true rfl) (Nat.le_of_ble_eq_true rfl) (Nat.le_of_ble_eq_true rfl) (kkR (fun r7 m7 E7 hw => ?_))
  have hw := hw E7
  exact x_aret HE hr (Or.inr ⟨_, rfl⟩) dJ2_grow_10 hw
theorem k_J2_grow {G : GT} {x0 : Int} {Q : Int → Hp → Prop} {h : Hp} (f0 : hT h x0 = 32) (l : Launch) (hw : g_J2_grow x0 Q h) : XM G l yJ2_grow cJ2_grow 1 (some (.array (.object "java/lang/Object"))) 4 127 [rV x0] (QR Q) h :=
  XM.of (by decide) (Nat.le_of_ble_eq_true rfl) (fun X HE hr hn => w_J2_grow_0 HE hr f0 hw)
def g_J2_add_2_b11 (x0 x1 x3 : Int) (Q : Hp → Prop) (l2 : Int) (h : Hp) : Prop :=
  (hT h l2 = 5) ∧ (((0 : Int) ≤ x3 ∧ x3 < hL h l2) ∧ (((5, hT h x1) ∈ xTak) ∧ (∀ m14 : Hp, m14 = setA h l2 x3 x1 → ((i32 (x3 + 1)) ∧ (∀ m19 : Hp, m19 = setF m14 x0 2 (x3 + 1) → (Q m19))))))
theorem w_J2_add_2_11 {G : GT} {X : ET} {h0 : Hp} {x0 x1 x3 : Int} (HE : XE G X cJ2_add_2 4 RJ2 5 147 h0) (hr : XR X none) (f0 : hT h0 x0 = 32) {Q : Hp → Prop} {l2 : Int} {h : Hp} (hw : g_J2_add_2_b11 x0 x1 x3 Q l2 h) : Wx G X h0 (QV Q) h 11 [some (rV x0), some (rV x1), some (rV l2), some (iV x3)] [] := by
  refine Wx.start (fun EB => ?_)
  unfold g_J2_add_2_b11 at hw
  refine x_aload_n HE 2 dJ2_add_2_11 rfl rfl ?_
  refine x_iload_n HE 3 dJ2_add_2_12 rfl rfl ?_
  refine x_aload_n HE 1 dJ2_add_2_13 rfl rfl ?_
  obtain ⟨v14, hw⟩ := hw
  obtain ⟨i14, hw⟩ := hw
  obtain ⟨b14, hw⟩ := hw
  refine x_aast HE dJ2_add_2_14 b14 v14 rfl i14 (fun m14 em14 E14 => ?_)
  have hw := hw m14 em14
  refine x_aload_n HE 0 dJ2_add_2_15 rfl rfl ?_
  refine x_iload_n HE 3 dJ2_add_2_16 rfl rfl ?_
  refine x_iconst HE dJ2_add_2_17 (by decide) ?_
  obtain ⟨v18, hw⟩ := hw
  refine x_iadd HE dJ2_add_2_18 v18 ?_
  refine x_pI HE dJ2_add_2_19 fd_J2_2 q211 (Or.inl rfl) (Or.inl rfl) (nf_int _) ((EB.tr E14).tag f0 (by decide)) (nro (by decide)) (Or.inl nf_J2_2) (fun m19 em19 E19 => ?_)
  have hw := hw m19 em19
  exact x_vret HE hr dJ2_add_2_22 hw
def g_J2_add_2 (x0 x1 x2 x3 : Int) (Q : Hp → Prop) (h : Hp) : Prop :=
  (Objs h x2) ∧ (((x3 ≠ (hL h x2)) → (g_J2_add_2_b11 x0 x1 x3 Q x2 h)) ∧ ((x3 = (hL h x2)) → (g_J2_grow x0 (fun r7 m7 => Ext h m7 → (g_J2_add_2_b11 x0 x1 x3 Q r7 m7)) h)))
theorem w_J2_add_2_0 {G : GT} {X : ET} {h0 : Hp} {x0 x1 x3 : Int} (HE : XE G X cJ2_add_2 4 RJ2 5 147 h0) (hr : XR X none) (f0 : hT h0 x0 = 32) {Q : Hp → Prop} {x2 : Int} {h : Hp} (hw : g_J2_add_2 x0 x1 x2 x3 Q h) : Wx G X h0 (QV Q) h 0 [some (rV x0), some (rV x1), some (rV x2), some (iV x3)] [] := by
  refine Wx.start (fun EB => ?_)
  unfold g_J2_add_2 at hw
  refine x_iload_n HE 3 dJ2_add_2_0 rfl rfl ?_
  refine x_aload_n HE 2 dJ2_add_2_1 rfl rfl ?_
  obtain ⟨v2, hw⟩ := hw
  refine x_alenO HE dJ2_add_2_2 v2 rfl ?_
  refine x_ic_ne HE 11 dJ2_add_2_3 (by decide) (fun c3 => ?_) (fun c3 => ?_)
  · have hw := hw.1 c3
    exact w_J2_add_2_11 HE hr f0 hw
  · have hw := hw.2 c3
    refine x_aload_n HE 0 dJ2_add_2_6 rfl rfl ?_
    refine x_callV HE dJ2_add_2_7 rfl (fun l => k_J2_grow (EB.tag f0 (by decide)) l hw) (As := []) (rest := []) rfl xc32 (EB.tag f0 (by decide)) (lw_V q791 q793 qs14 q128 q794) hy_J2_grow rfl rfl (Nat.le_of_ble_eq_true rfl) (Nat.le_of_ble_eq_true rfl) (Nat.le_of_ble_eq_true rfl) (kkR (fun r7 m7 E7 hw => ?_))
    have hw := hw E7
    refine x_astore_n HE 2 (lo' := [some (rV x0), some (rV x1), some (rV r7), some (iV x3)]) dJ2_add_2_10 rfl (Nat.le_of_ble_eq_true rfl) rfl ?_
    exact w_J2_add_2_11 HE hr f0 hw
theorem k_J2_add_2 {G : GT} {x0 x1 x2 x3 : Int} {Q : Hp → Prop} {h : Hp} (f0 : hT h x0 = 32) (l : Launch) (hw : g_J2_add_2 x0 x1 x2 x3 Q h) : XM G l yJ2_add_2 cJ2_add_2 4 none 5 147 [rV x0, rV x1, rV x2, iV x3] (QV Q) h :=
  XM.of (by decide) (Nat.le_of_ble_eq_true rfl) (fun X HE hr hn => w_J2_add_2_0 HE hr f0 hw)
def g_J2_add (x0 x1 : Int) (Q : Int → Hp → Prop) (h : Hp) : Prop :=
  (i32 ((hF h x0 0) + 1)) ∧ (∀ m7 : Hp, m7 = setF h x0 0 ((hF h x0 0) + 1) → (g_J2_add_2 x0 x1 (hF m7 x0 1) (hF m7 x0 2) (fun m20 => Ext m7 m20 → (Q 1 m20)) m7))
theorem w_J2_add_0 {G : GT} {X : ET} {h0 : Hp} {x0 x1 : Int} (HE : XE G X cJ2_add 2 RJ2 6 170 h0) (hr : XR X (some .boolean)) (f0 : hT h0 x0 = 32) {Q : Int → Hp → Prop} {h : Hp} (hw : g_J2_add x0 x1 Q h) : Wx G X h0 (QI Q) h 0 [some (rV x0), some (rV x1)] [] := by
  refine Wx.start (fun EB => ?_)
  unfold g_J2_add at hw
  refine x_aload_n HE 0 dJ2_add_0 rfl rfl ?_
  refine x_dup HE dJ2_add_1 (fun o => o) ?_
  refine x_gI HE dJ2_add_2 fd_J2_0 q213 (Or.inr q214) (EB.tag f0 (by decide)) rfl ?_
  refine x_iconst HE dJ2_add_5 (by decide) ?_
  obtain ⟨v6, hw⟩ := hw
  refine x_iadd HE dJ2_add_6 v6 ?_
  refine x_pI HE dJ2_add_7 fd_J2_0 q213 (Or.inr q214) (Or.inl rfl) (nf_int _) (EB.tag f0 (by decide)) (nro (by decide)) (Or.inl nf_J2_0) (fun m7 em7 E7 => ?_)
  have hw := hw m7 em7
  refine x_aload_n HE 0 dJ2_add_10 rfl rfl ?_
  refine x_aload_n HE 1 dJ2_add_11 rfl rfl ?_
  refine x_aload_n HE 0 dJ2_add_12 rfl rfl ?_
  refine x_gR HE dJ2_add_13 fd_J2_1 q210 (Or.inl rfl) ((EB.tr E7).tag f0 (by decide)) rfl ?_
  refine x_aload_n HE 0 dJ2_add_16 rfl rfl ?_
  refine x_gI HE dJ2_add_17 fd_J2_2 q211 (Or.inl rfl) ((EB.tr E7).tag f0 (by decide)) rfl ?_
  refine x_callV HE dJ2_add_20 rfl (fun l => k_J2_add_2 ((EB.tr E7).tag f0 (by decide)) l hw) (As := [rV x1, rV (hF m7 x0 1), iV (hF m7 x0 2)]) (rest := []) rfl xc32 ((EB.tr E7).tag f0 (by decide)) (lw_V q787 q789 qs13 q128 q790) hy_J2_add_2 rfl rfl (Nat.le_of_ble_eq_true rfl) (Nat.le_of_ble_eq_true rfl) (Nat.le_of_ble_eq_true rfl) (kkV (fun m20 E20 hw => ?_))
  have hw := hw E20
  refine x_iconst HE dJ2_add_23 (by decide) ?_
  exact x_zret HE hr dJ2_add_24 (by decide) hw
theorem k_J2_add {G : GT} {x0 x1 : Int} {Q : Int → Hp → Prop} {h : Hp} (f0 : hT h x0 = 32) (l : Launch) (hw : g_J2_add x0 x1 Q h) : XM G l yJ2_add cJ2_add 2 (some .boolean) 6 170 [rV x0, rV x1] (QI Q) h :=
  XM.of (by decide) (Nat.le_of_ble_eq_true rfl) (fun X HE hr hn => w_J2_add_0 HE hr f0 hw)
def g_J2_isEmpty_b12 (x0 : Int) (Q : Int → Hp → Prop) (s0 : Int) (h : Hp) : Prop :=
  (s0 = 0 ∨ s0 = 1) ∧ Q s0 h
theorem w_J2_isEmpty_12 {G : GT} {X : ET} {h0 : Hp} {x0 : Int} (HE : XE G X cJ2_isEmpty 1 RJ2 0 0 h0) (hr : XR X (some .boolean)) (f0 : hT h0 x0 = 32) {Q : Int → Hp → Prop} {s0 : Int} {h : Hp} (hw : g_J2_isEmpty_b12 x0 Q s0 h) : Wx G X h0 (QI Q) h 12 [some (rV x0)] [iV s0] := by
  refine Wx.start (fun EB => ?_)
  unfold g_J2_isEmpty_b12 at hw
  exact x_zret HE hr dJ2_isEmpty_12 hw.1 hw.2
def g_J2_isEmpty (x0 : Int) (Q : Int → Hp → Prop) (h : Hp) : Prop :=
  (((hF h x0 2) ≠ 0) → (g_J2_isEmpty_b12 x0 Q 0 h)) ∧ (((hF h x0 2) = 0) → (g_J2_isEmpty_b12 x0 Q 1 h))
theorem w_J2_isEmpty_0 {G : GT} {X : ET} {h0 : Hp} {x0 : Int} (HE : XE G X cJ2_isEmpty 1 RJ2 0 0 h0) (hr : XR X (some .boolean)) (f0 : hT h0 x0 = 32) {Q : Int → Hp → Prop} {h : Hp} (hw : g_J2_isEmpty x0 Q h) : Wx G X h0 (QI Q) h 0 [some (rV x0)] [] := by
  refine Wx.start (fun EB => ?_)
  unfold g_J2_isEmpty at hw
  refine x_aload_n HE 0 dJ2_isEmpty_0 rfl rfl ?_
  refine x_gI HE dJ2_isEmpty_1 fd_J2_2 q211 (Or.inl rfl) (EB.tag f0 (by decide)) rfl ?_
  refine x_if_ne HE 11 dJ2_isEmpty_4 (by decide) (fun c4 => ?_) (fun c4 => ?_)
  · have hw := hw.1 c4
    refine x_iconst HE dJ2_isEmpty_11 (by decide) ?_
    exact w_J2_isEmpty_12 HE hr f0 hw
  · have hw := hw.2 c4
    refine x_iconst HE dJ2_isEmpty_7 (by decide) ?_
    refine x_goto HE 12 dJ2_isEmpty_8 (by decide) ?_
    exact w_J2_isEmpty_12 HE hr f0 hw
theorem k_J2_isEmpty {G : GT} {x0 : Int} {Q : Int → Hp → Prop} {h : Hp} (f0 : hT h x0 = 32) (l : Launch) (hw : g_J2_isEmpty x0 Q h) : XM G l yJ2_isEmpty cJ2_isEmpty 1 (some .boolean) 0 0 [rV x0] (QI Q) h :=
  XM.of (by decide) (Nat.le_of_ble_eq_true rfl) (fun X HE hr hn => w_J2_isEmpty_0 HE hr f0 hw)
def g_J2_clear_b42 (x0 : Int) (Q : Hp → Prop) (h : Hp) : Prop :=
  Q h
theorem w_J2_clear_42 {G : GT} {X : ET} {h0 : Hp} {x0 : Int} (HE : XE G X cJ2_clear 4 RJ2 0 0 h0) (hr : XR X none) (f0 : hT h0 x0 = 32) {Q : Hp → Prop} {h : Hp} (hw : g_J2_clear_b42 x0 Q  h) : Wx G X h0 (QV Q) h 42 [some (rV x0), none, none, none] [] := by
  refine Wx.start (fun EB => ?_)
  unfold g_J2_clear_b42 at hw
  exact x_vret HE hr dJ2_clear_42 hw
def g_J2_clear_L27 (x0 : Int) (Q : Hp → Prop) (K27 : Int → Int → Int → Hp → Prop) (l1 l2 l3 : Int) (h : Hp) : Prop :=
  ((l2 ≤ l3) → (g_J2_clear_b42 x0 Q h)) ∧ ((l3 < l2) → ((hT h l1 = 5) ∧ (((0 : Int) ≤ l3 ∧ l3 < hL h l1) ∧ (∀ m35 : Hp, m35 = setA h l1 l3 0 → ((i32 (l3 + 1)) ∧ (∀ y36 : Int, y36 = l3 + 1 → (K27 l1 l2 y36 m35)))))))
theorem w_J2_clear_27 {G : GT} {X : ET} {h0 : Hp} {x0 : Int} (HE : XE G X cJ2_clear 4 RJ2 0 0 h0) (hr : XR X none) (f0 : hT h0 x0 = 32) {Q : Hp → Prop} {K27 : Int → Int → Int → Hp → Prop} (hK27 : ∀ (l1 l2 l3 : Int) (h : Hp), K27 l1 l2 l3 h → Wx G X h0 (QV Q) h 27 [some (rV x0), some (rV l1), some (iV l2), some (iV l3)] []) {l1 l2 l3 : Int} {h : Hp} (hw : g_J2_clear_L27 x0 Q K27 l1 l2 l3 h) : Wx G X h0 (QV Q) h 27 [some (rV x0), some (rV l1), some (iV l2), some (iV l3)] [] := by
  refine Wx.start (fun EB => ?_)
  unfold g_J2_clear_L27 at hw
  refine x_iload_n HE 3 dJ2_clear_27 rfl rfl ?_
  refine x_iload_n HE 2 dJ2_clear_28 rfl rfl ?_
  refine x_ic_ge HE 42 dJ2_clear_29 (by decide) (fun c29 => ?_) (fun c29 => ?_)
  · have hw := hw.1 c29
    refine Wx.mask [true, false, false, false] (lo2 := [some (rV x0), none, none, none]) rfl ?_
    exact w_J2_clear_42 HE hr f0 hw
  · have hw := hw.2 c29
    refine x_aload_n HE 1 dJ2_clear_32 rfl rfl ?_
    refine x_iload_n HE 3 dJ2_clear_33 rfl rfl ?_
    refine x_null HE dJ2_clear_34 ?_
    obtain ⟨v35, hw⟩ := hw
    obtain ⟨i35, hw⟩ := hw
    refine x_aastN HE dJ2_clear_35 (t := 5) (by decide) v35 i35 (fun m35 em35 E35 => ?_)
    have hw := hw m35 em35
    obtain ⟨v36, hw⟩ := hw
    refine x_iincN HE (fun y36 => [some (rV x0), some (rV l1), some (iV l2), some (iV y36)]) dJ2_clear_36 rfl v36 (Nat.le_of_ble_eq_true rfl) (fun _ => rfl) (fun y36 ey36 => ?_)
    have hw := hw y36 ey36
    refine x_goto HE 27 dJ2_clear_39 (by decide) ?_
    exact hK27 _ _ _ _ hw
theorem wl_J2_clear_27 {G : GT} {X : ET} {h0 : Hp} {x0 : Int} (HE : XE G X cJ2_clear 4 RJ2 0 0 h0) (hr : XR X none) (f0 : hT h0 x0 = 32) {Q : Hp → Prop} {l1 l2 l3 : Int} {h : Hp} (hw : Lp3 (g_J2_clear_L27 x0 Q) l1 l2 l3 h) : Wx G X h0 (QV Q) h 27 [some (rV x0), some (rV l1), some (iV l2), some (iV l3)] [] := by
  obtain ⟨n, hw⟩ := hw
  induction n generalizing l1 l2 l3 h with
  | zero => exact hw.elim
  | succ n ih => exact w_J2_clear_27 HE hr f0 (fun _ _ _ _ hk => ih hk) hw
def g_J2_clear (x0 : Int) (Q : Hp → Prop) (h : Hp) : Prop :=
  (i32 ((hF h x0 0) + 1)) ∧ (∀ m7 : Hp, m7 = setF h x0 0 ((hF h x0 0) + 1) → (∀ y14 : Int, y14 = (hF m7 x0 1) → (∀ y19 : Int, y19 = (hF m7 x0 2) → (∀ m23 : Hp, m23 = setF m7 x0 2 0 → (Lp3 (g_J2_clear_L27 x0 Q) y14 y19 0 m23)))))
theorem w_J2_clear_0 {G : GT} {X : ET} {h0 : Hp} {x0 : Int} (HE : XE G X cJ2_clear 4 RJ2 0 0 h0) (hr : XR X none) (f0 : hT h0 x0 = 32) {Q : Hp → Prop} {h : Hp} (hw : g_J2_clear x0 Q h) : Wx G X h0 (QV Q) h 0 [some (rV x0), none, none, none] [] := by
  refine Wx.start (fun EB => ?_)
  unfold g_J2_clear at hw
  refine x_aload_n HE 0 dJ2_clear_0 rfl rfl ?_
  refine x_dup HE dJ2_clear_1 (fun o => o) ?_
  refine x_gI HE dJ2_clear_2 fd_J2_0 q213 (Or.inr q214) (EB.tag f0 (by decide)) rfl ?_
  refine x_iconst HE dJ2_clear_5 (by decide) ?_
  obtain ⟨v6, hw⟩ := hw
  refine x_iadd HE dJ2_clear_6 v6 ?_
  refine x_pI HE dJ2_clear_7 fd_J2_0 q213 (Or.inr q214) (Or.inl rfl) (nf_int _) (EB.tag f0 (by decide)) (nro (by decide)) (Or.inl nf_J2_0) (fun m7 em7 E7 => ?_)
  have hw := hw m7 em7
  refine x_aload_n HE 0 dJ2_clear_10 rfl rfl ?_
  refine x_gR HE dJ2_clear_11 fd_J2_1 q210 (Or.inl rfl) ((EB.tr E7).tag f0 (by decide)) rfl ?_
  refine x_astore_nN HE 1 (fun y14 => [some (rV x0), some (rV y14), none, none]) dJ2_clear_14 rfl (Nat.le_of_ble_eq_true rfl) (fun _ => rfl) (fun y14 ey14 => ?_)
  have hw := hw y14 ey14
  refine x_aload_n HE 0 dJ2_clear_15 rfl rfl ?_
  refine x_gI HE dJ2_clear_16 fd_J2_2 q211 (Or.inl rfl) ((EB.tr E7).tag f0 (by decide)) rfl ?_
  refine x_istore_nN HE 2 (fun y19 => [some (rV x0), some (rV y14), some (iV y19), none]) dJ2_clear_19 rfl (Nat.le_of_ble_eq_true rfl) (fun _ => rfl) (fun y19 ey19 => ?_)
  have hw := hw y19 ey19
  refine x_aload_n HE 0 dJ2_clear_20 rfl rfl ?_
  refine x_iconst HE dJ2_clear_21 (by decide) ?_
  refine x_dup_x1 HE dJ2_clear_22 (fun o => o) (fun o => o) ?_
  refine x_pI HE dJ2_clear_23 fd_J2_2 q211 (Or.inl rfl) (Or.inl rfl) (nf_int _) ((EB.tr E7).tag f0 (by decide)) (nro (by decide)) (Or.inl nf_J2_2) (fun m23 em23 E23 => ?_)
  have hw := hw m23 em23
  refine x_istore_n HE 3 (lo' := [some (rV x0), some (rV y14), some (iV y19), some (iV 0)]) dJ2_clear_26 rfl (Nat.le_of_ble_eq_true rfl) rfl ?_
  exact wl_J2_clear_27 HE hr f0 hw
theorem k_J2_clear {G : GT} {x0 : Int} {Q : Hp → Prop} {h : Hp} (f0 : hT h x0 = 32) (l : Launch) (hw : g_J2_clear x0 Q h) : XM G l yJ2_clear cJ2_clear 4 none 0 0 [rV x0] (QV Q) h :=
  XM.of (by decide) (Nat.le_of_ble_eq_true rfl) (fun X HE hr hn => w_J2_clear_0 HE hr f0 hw)
def g_J2_fastRemove_b34 (x0 x1 x2 : Int) (Q : Hp → Prop) (l3 : Int) (h : Hp) : Prop :=
  ∀ m38 : Hp, m38 = setF h x0 2 l3 → ((hT m38 x1 = 5) ∧ (((0 : Int) ≤ l3 ∧ l3 < hL m38 x1) ∧ (∀ m42 : Hp, m42 = setA m38 x1 l3 0 → (Q m42))))
theorem w_J2_fastRemove_34 {G : GT} {X : ET} {h0 : Hp} {x0 x1 x2 : Int} (HE : XE G X cJ2_fastRemove 4 RJ2 1 60 h0) (hr : XR X none) (f0 : hT h0 x0 = 32) {Q : Hp → Prop} {l3 : Int} {h : Hp} (hw : g_J2_fastRemove_b34 x0 x1 x2 Q l3 h) : Wx G X h0 (QV Q) h 34 [some (rV x0), some (rV x1), some (iV x2), some (iV l3)] [] := by
  refine Wx.start (fun EB => ?_)
  unfold g_J2_fastRemove_b34 at hw
  refine x_aload_n HE 1 dJ2_fastRemove_34 rfl rfl ?_
  refine x_aload_n HE 0 dJ2_fastRemove_35 rfl rfl ?_
  refine x_iload_n HE 3 dJ2_fastRemove_36 rfl rfl ?_
  refine x_dup_x1 HE dJ2_fastRemove_37 (fun o => o) (fun o => o) ?_
  refine x_pI HE dJ2_fastRemove_38 fd_J2_2 q211 (Or.inl rfl) (Or.inl rfl) (nf_int _) (EB.tag f0 (by decide)) (nro (by decide)) (Or.inl nf_J2_2) (fun m38 em38 E38 => ?_)
  have hw := hw m38 em38
  refine x_null HE dJ2_fastRemove_41 ?_
  obtain ⟨v42, hw⟩ := hw
  obtain ⟨i42, hw⟩ := hw
  refine x_aastN HE dJ2_fastRemove_42 (t := 5) (by decide) v42 i42 (fun m42 em42 E42 => ?_)
  have hw := hw m42 em42
  exact x_vret HE hr dJ2_fastRemove_43 hw
def g_J2_fastRemove (x0 x1 x2 : Int) (Q : Hp → Prop) (h : Hp) : Prop :=
  (i32 ((hF h x0 0) + 1)) ∧ (∀ m7 : Hp, m7 = setF h x0 0 ((hF h x0 0) + 1) → ((i32 ((hF m7 x0 2) - 1)) ∧ (∀ y17 : Int, y17 = ((hF m7 x0 2) - 1) → (((((hF m7 x0 2) - 1) ≤ x2) → (g_J2_fastRemove_b34 x0 x1 x2 Q y17 m7)) ∧ ((x2 < ((hF m7 x0 2) - 1)) → ((i32 (x2 + 1)) ∧ ((i32 (y17 - x2)) ∧ ((hT m7 x1 = 5) ∧ (((0 : Int) ≤ (x2 + 1) ∧ (0 : Int) ≤ x2 ∧ (0 : Int) ≤ (y17 - x2)) ∧ ((((x2 + 1) : Int) + (y17 - x2) ≤ hL m7 x1) ∧ (((x2 : Int) + (y17 - x2) ≤ hL m7 x1) ∧ ((∀ i : Int, (x2 + 1) ≤ i → i < (x2 + 1) + (y17 - x2) → hA m7 x1 i = 0 ∨ (5, hT m7 (hA m7 x1 i)) ∈ xTak) ∧ (∀ m31 : Hp, m31 = putA m7 x1 (cpyA (hA m7 x1) (hA m7 x1) (x2 + 1) x2 (y17 - x2)) → (g_J2_fastRemove_b34 x0 x1 x2 Q y17 m31))))))))))))))
theorem w_J2_fastRemove_0 {G : GT} {X : ET} {h0 : Hp} {x0 x1 x2 : Int} (HE : XE G X cJ2_fastRemove 4 RJ2 1 60 h0) (hr : XR X none) (f0 : hT h0 x0 = 32) {Q : Hp → Prop} {h : Hp} (hw : g_J2_fastRemove x0 x1 x2 Q h) : Wx G X h0 (QV Q) h 0 [some (rV x0), some (rV x1), some (iV x2), none] [] := by
  refine Wx.start (fun EB => ?_)
  unfold g_J2_fastRemove at hw
  refine x_aload_n HE 0 dJ2_fastRemove_0 rfl rfl ?_
  refine x_dup HE dJ2_fastRemove_1 (fun o => o) ?_
  refine x_gI HE dJ2_fastRemove_2 fd_J2_0 q213 (Or.inr q214) (EB.tag f0 (by decide)) rfl ?_
  refine x_iconst HE dJ2_fastRemove_5 (by decide) ?_
  obtain ⟨v6, hw⟩ := hw
  refine x_iadd HE dJ2_fastRemove_6 v6 ?_
  refine x_pI HE dJ2_fastRemove_7 fd_J2_0 q213 (Or.inr q214) (Or.inl rfl) (nf_int _) (EB.tag f0 (by decide)) (nro (by decide)) (Or.inl nf_J2_0) (fun m7 em7 E7 => ?_)
  have hw := hw m7 em7
  refine x_aload_n HE 0 dJ2_fastRemove_10 rfl rfl ?_
  refine x_gI HE dJ2_fastRemove_11 fd_J2_2 q211 (Or.inl rfl) ((EB.tr E7).tag f0 (by decide)) rfl ?_
  refine x_iconst HE dJ2_fastRemove_14 (by decide) ?_
  obtain ⟨v15, hw⟩ := hw
  refine x_isub HE dJ2_fastRemove_15 v15 ?_
  refine x_dup HE dJ2_fastRemove_16 (fun o => o) ?_
  refine x_istore_nN HE 3 (fun y17 => [some (rV x0), some (rV x1), some (iV x2), some (iV y17)]) dJ2_fastRemove_17 rfl (Nat.le_of_ble_eq_true rfl) (fun _ => rfl) (fun y17 ey17 => ?_)
  have hw := hw y17 ey17
  refine x_iload_n HE 2 dJ2_fastRemove_18 rfl rfl ?_
  refine x_ic_le HE 34 dJ2_fastRemove_19 (by decide) (fun c19 => ?_) (fun c19 => ?_)
  · have hw := hw.1 c19
    exact w_J2_fastRemove_34 HE hr f0 hw
  · have hw := hw.2 c19
    refine x_aload_n HE 1 dJ2_fastRemove_22 rfl rfl ?_
    refine x_iload_n HE 2 dJ2_fastRemove_23 rfl rfl ?_
    refine x_iconst HE dJ2_fastRemove_24 (by decide) ?_
    obtain ⟨v25, hw⟩ := hw
    refine x_iadd HE dJ2_fastRemove_25 v25 ?_
    refine x_aload_n HE 1 dJ2_fastRemove_26 rfl rfl ?_
    refine x_iload_n HE 2 dJ2_fastRemove_27 rfl rfl ?_
    refine x_iload_n HE 3 dJ2_fastRemove_28 rfl rfl ?_
    refine x_iload_n HE 2 dJ2_fastRemove_29 rfl rfl ?_
    obtain ⟨v30, hw⟩ := hw
    refine x_isub HE dJ2_fastRemove_30 v30 ?_
    obtain ⟨v31, hw⟩ := hw
    obtain ⟨p31, hw⟩ := hw
    obtain ⟨q31, hw⟩ := hw
    obtain ⟨r31, hw⟩ := hw
    obtain ⟨s31, hw⟩ := hw
    refine x_cpy (t := 5) (ty := .object "java/lang/Object") HE dJ2_fastRemove_31 rfl q1691 q456 q455 q141 (by simp [xAr]) (by unfold roT; omega) v31 v31 p31 q31 r31 (fun i i1 i2 => ⟨(nf_obj "java/lang/Object" _).2, (fun _ => (s31 i i1 i2).imp id (fun z => ⟨_, rfl, z⟩)), by decide⟩) (Nat.le_of_ble_eq_true rfl) (Nat.le_of_ble_eq_true rfl) (by decide +kernel) (fun m31 em31 E31 => ?_)
    have hw := hw m31 em31
    exact w_J2_fastRemove_34 HE hr f0 hw
theorem k_J2_fastRemove {G : GT} {x0 x1 x2 : Int} {Q : Hp → Prop} {h : Hp} (f0 : hT h x0 = 32) (l : Launch) (hw : g_J2_fastRemove x0 x1 x2 Q h) : XM G l yJ2_fastRemove cJ2_fastRemove 4 none 1 60 [rV x0, rV x1, iV x2] (QV Q) h :=
  XM.of (by decide) (Nat.le_of_ble_eq_true rfl) (fun X HE hr hn => w_J2_fastRemove_0 HE hr f0 hw)
def g_J2_remove (x0 x1 : Int) (Q : Int → Hp → Prop) (h : Hp) : Prop :=
  g_J12_checkIndex x1 (hF h x0 2) (fun r5 m5 => Ext h m5 → (∀ y13 : Int, y13 = (hF m5 x0 1) → ((hT m5 y13 = 5) ∧ (((0 : Int) ≤ x1 ∧ x1 < hL m5 y13) ∧ (∀ y17 : Int, y17 = (hA m5 y13 x1) → (g_J2_fastRemove x0 y13 x1 (fun m21 => Ext m5 m21 → (Q y17 m21)) m5)))))) h
theorem w_J2_remove_0 {G : GT} {X : ET} {h0 : Hp} {x0 x1 : Int} (HE : XE G X cJ2_remove 4 RJ2 2 83 h0) (hr : XR X (some (.object "java/lang/Object"))) (f0 : hT h0 x0 = 32) {Q : Int → Hp → Prop} {h : Hp} (hw : g_J2_remove x0 x1 Q h) : Wx G X h0 (QR Q) h 0 [some (rV x0), some (iV x1), none, none] [] := by
  refine Wx.start (fun EB => ?_)
  unfold g_J2_remove at hw
  refine x_iload_n HE 1 dJ2_remove_0 rfl rfl ?_
  refine x_aload_n HE 0 dJ2_remove_1 rfl rfl ?_
  refine x_gI HE dJ2_remove_2 fd_J2_2 q211 (Or.inl rfl) (EB.tag f0 (by decide)) rfl ?_
  refine x_callS HE dJ2_remove_5 rfl (fun l => k_J12_checkIndex  l hw) (As := [iV x1, iV (hF h x0 2)]) (rest := []) rfl (lw_S q739 q740 q144 q741) hy_J12_checkIndex.2 rfl rfl (Nat.le_of_ble_eq_true rfl) (Nat.le_of_ble_eq_true rfl) (Nat.le_of_ble_eq_true rfl) (kkI (fun r5 m5 E5 hw => ?_))
  have hw := hw E5
  refine x_pop HE dJ2_remove_8 (fun o => o) ?_
  refine x_aload_n HE 0 dJ2_remove_9 rfl rfl ?_
  refine x_gR HE dJ2_remove_10 fd_J2_1 q210 (Or.inl rfl) ((EB.tr E5).tag f0 (by decide)) rfl ?_
  refine x_astore_nN HE 2 (fun y13 => [some (rV x0), some (iV x1), some (rV y13), none]) dJ2_remove_13 rfl (Nat.le_of_ble_eq_true rfl) (fun _ => rfl) (fun y13 ey13 => ?_)
  have hw := hw y13 ey13
  refine x_aload_n HE 2 dJ2_remove_14 rfl rfl ?_
  refine x_iload_n HE 1 dJ2_remove_15 rfl rfl ?_
  obtain ⟨v16, hw⟩ := hw
  obtain ⟨i16, hw⟩ := hw
  refine x_aald HE dJ2_remove_16 (t := 5) (by decide) v16 i16 rfl ?_
  refine x_astore_nN HE 3 (fun y17 => [some (rV x0), some (iV x1), some (rV y13), some (rV y17)]) dJ2_remove_17 rfl (Nat.le_of_ble_eq_true rfl) (fun _ => rfl) (fun y17 ey17 => ?_)
  have hw := hw y17 ey17
  refine x_aload_n HE 0 dJ2_remove_18 rfl rfl ?_
  refine x_aload_n HE 2 dJ2_remove_19 rfl rfl ?_
  refine x_iload_n HE 1 dJ2_remove_20 rfl rfl ?_
  refine x_callV HE dJ2_remove_21 rfl (fun l => k_J2_fastRemove ((EB.tr E5).tag f0 (by decide)) l hw) (As := [rV y13, iV x1]) (rest := []) rfl xc32 ((EB.tr E5).tag f0 (by decide)) (lw_V q1687 q1689 qs51 q128 q1690) hy_J2_fastRemove rfl rfl (Nat.le_of_ble_eq_true rfl) (Nat.le_of_ble_eq_true rfl) (Nat.le_of_ble_eq_true rfl) (kkV (fun m21 E21 hw => ?_))
  have hw := hw E21
  refine x_aload_n HE 3 dJ2_remove_24 rfl rfl ?_
  exact x_aret HE hr (Or.inl ⟨_, rfl⟩) dJ2_remove_25 hw
theorem k_J2_remove {G : GT} {x0 x1 : Int} {Q : Int → Hp → Prop} {h : Hp} (f0 : hT h x0 = 32) (l : Launch) (hw : g_J2_remove x0 x1 Q h) : XM G l yJ2_remove cJ2_remove 4 (some (.object "java/lang/Object")) 2 83 [rV x0, iV x1] (QR Q) h :=
  XM.of (by decide) (Nat.le_of_ble_eq_true rfl) (fun X HE hr hn => w_J2_remove_0 HE hr f0 hw)
def g_J5_coder_b14 (x0 : Int) (Q : Int → Hp → Prop) (s0 : Int) (h : Hp) : Prop :=
  (-128 ≤ s0 ∧ s0 ≤ 127) ∧ Q s0 h
theorem w_J5_coder_14 {G : GT} {X : ET} {h0 : Hp} {x0 : Int} (HE : XE G X cJ5_coder 1 RJ5 0 0 h0) (hr : XR X (some .byte)) (f0 : Strg h0 x0) {Q : Int → Hp → Prop} {s0 : Int} {h : Hp} (hw : g_J5_coder_b14 x0 Q s0 h) : Wx G X h0 (QI Q) h 14 [some (rV x0)] [iV s0] := by
  refine Wx.start (fun EB => ?_)
  unfold g_J5_coder_b14 at hw
  exact x_bret HE hr dJ5_coder_14 hw.1 hw.2
def g_J5_coder (x0 : Int) (Q : Int → Hp → Prop) (h : Hp) : Prop :=
  (((1 : Int) = 0) → (g_J5_coder_b14 x0 Q 1 h)) ∧ (((1 : Int) ≠ 0) → (g_J5_coder_b14 x0 Q (hF h x0 1) h))
theorem w_J5_coder_0 {G : GT} {X : ET} {h0 : Hp} {x0 : Int} (HE : XE G X cJ5_coder 1 RJ5 0 0 h0) (hr : XR X (some .byte)) (f0 : Strg h0 x0) {Q : Int → Hp → Prop} {h : Hp} (hw : g_J5_coder x0 Q h) : Wx G X h0 (QI Q) h 0 [some (rV x0)] [] := by
  refine Wx.start (fun EB => ?_)
  unfold g_J5_coder at hw
  refine x_getCS HE dJ5_coder_0 q546 ?_
  refine x_if_eq HE 13 dJ5_coder_3 (by decide) (fun c3 => ?_) (fun c3 => ?_)
  · have hw := hw.1 c3
    refine x_iconst HE dJ5_coder_13 (by decide) ?_
    exact w_J5_coder_14 HE hr f0 hw
  · have hw := hw.2 c3
    refine x_aload_n HE 0 dJ5_coder_6 rfl rfl ?_
    refine x_gStr1 HE dJ5_coder_7 q561 (Or.inl rfl) (f0.ext EB) rfl ?_
    refine x_goto HE 14 dJ5_coder_10 (by decide) ?_
    exact w_J5_coder_14 HE hr f0 hw
theorem k_J5_coder {G : GT} {x0 : Int} {Q : Int → Hp → Prop} {h : Hp} (f0 : Strg h x0) (l : Launch) (hw : g_J5_coder x0 Q h) : XM G l yJ5_coder cJ5_coder 1 (some .byte) 0 0 [rV x0] (QI Q) h :=
  XM.of (by decide) (Nat.le_of_ble_eq_true rfl) (fun X HE hr hn => w_J5_coder_0 HE hr f0 hw)
def g_J5_length (x0 : Int) (Q : Int → Hp → Prop) (h : Hp) : Prop :=
  (Byts h (hF h x0 0)) ∧ (g_J5_coder x0 (fun r6 m6 => Ext h m6 → (Q (bShr (hL h (hF h x0 0)) r6) m6)) h)
theorem w_J5_length_0 {G : GT} {X : ET} {h0 : Hp} {x0 : Int} (HE : XE G X cJ5_length 1 RJ5 1 20 h0) (hr : XR X (some .int)) (f0 : Strg h0 x0) {Q : Int → Hp → Prop} {h : Hp} (hw : g_J5_length x0 Q h) : Wx G X h0 (QI Q) h 0 [some (rV x0)] [] := by
  refine Wx.start (fun EB => ?_)
  unfold g_J5_length at hw
  refine x_aload_n HE 0 dJ5_length_0 rfl rfl ?_
  refine x_gStr0 HE dJ5_length_1 q560 (Or.inl rfl) (f0.ext EB) rfl ?_
  obtain ⟨v4, hw⟩ := hw
  refine x_alenB HE dJ5_length_4 v4 rfl ?_
  refine x_aload_n HE 0 dJ5_length_5 rfl rfl ?_
  refine x_callV (t := hT h x0) HE dJ5_length_6 rfl (fun l => k_J5_coder (f0.ext EB) l hw) (As := []) (rest := [iV (hL h (hF h x0 0))]) rfl (Strg.xc (f0.ext EB)) rfl (lw_V q1993 q1994 q1995 q136 q1996) hy_J5_coder rfl rfl (Nat.le_of_ble_eq_true rfl) (Nat.le_of_ble_eq_true rfl) (Nat.le_of_ble_eq_true rfl) (kkI (fun r6 m6 E6 hw => ?_))
  have hw := hw E6
  refine x_ishr HE dJ5_length_9 ?_
  exact x_iret HE hr dJ5_length_10 hw
theorem k_J5_length {G : GT} {x0 : Int} {Q : Int → Hp → Prop} {h : Hp} (f0 : Strg h x0) (l : Launch) (hw : g_J5_length x0 Q h) : XM G l yJ5_length cJ5_length 1 (some .int) 1 20 [rV x0] (QI Q) h :=
  XM.of (by decide) (Nat.le_of_ble_eq_true rfl) (fun X HE hr hn => w_J5_length_0 HE hr f0 hw)
def g_J5_checkIndex (x0 x1 : Int) (Q : Hp → Prop) (h : Hp) : Prop :=
  (0 ≤ hF h 0 34) ∧ (g_J11_checkIndex x0 x1 (hF h 0 34) (fun r5 m5 => Ext h m5 → (Q m5)) h)
theorem w_J5_checkIndex_0 {G : GT} {X : ET} {h0 : Hp} {x0 x1 : Int} (HE : XE G X cJ5_checkIndex 2 RJ5 1 22 h0) (hr : XR X none) {Q : Hp → Prop} {h : Hp} (hw : g_J5_checkIndex x0 x1 Q h) : Wx G X h0 (QV Q) h 0 [some (iV x0), some (iV x1)] [] := by
  refine Wx.start (fun EB => ?_)
  unfold g_J5_checkIndex at hw
  refine x_iload_n HE 0 dJ5_checkIndex_0 rfl rfl ?_
  refine x_iload_n HE 1 dJ5_checkIndex_1 rfl rfl ?_
  obtain ⟨v2, hw⟩ := hw
  refine x_getSF HE dJ5_checkIndex_2 q484 v2 ?_
  refine x_callS HE dJ5_checkIndex_5 rfl (fun l => k_J11_checkIndex  l hw) (As := [iV x0, iV x1, rV (hF h 0 34)]) (rest := []) rfl (lw_S q507 q508 q143 q509) hy_J11_checkIndex.2 rfl rfl (Nat.le_of_ble_eq_true rfl) (Nat.le_of_ble_eq_true rfl) (Nat.le_of_ble_eq_true rfl) (kkI (fun r5 m5 E5 hw => ?_))
  have hw := hw E5
  refine x_pop HE dJ5_checkIndex_8 (fun o => o) ?_
  exact x_vret HE hr dJ5_checkIndex_9 hw
theorem k_J5_checkIndex {G : GT} {x0 x1 : Int} {Q : Hp → Prop} {h : Hp} (l : Launch) (hw : g_J5_checkIndex x0 x1 Q h) : XM G l yJ5_checkIndex cJ5_checkIndex 2 none 1 22 [iV x0, iV x1] (QV Q) h :=
  XM.of (by decide) (Nat.le_of_ble_eq_true rfl) (fun X HE hr hn => w_J5_checkIndex_0 HE hr  hw)
def g_J10_charAt (x0 x1 : Int) (Q : Int → Hp → Prop) (h : Hp) : Prop :=
  (Byts h x0) ∧ (g_J5_checkIndex x1 (hL h x0) (fun m3 => Ext h m3 → (((0 : Int) ≤ x1 ∧ x1 < hL m3 x0) ∧ ((0 ≤ (bChar (bAnd (hA m3 x0 x1) 255)) ∧ (bChar (bAnd (hA m3 x0 x1) 255)) ≤ 65535) ∧ Q (bChar (bAnd (hA m3 x0 x1) 255)) m3))) h)
theorem w_J10_charAt_0 {G : GT} {X : ET} {h0 : Hp} {x0 x1 : Int} (HE : XE G X cJ10_charAt 2 RJ10 2 43 h0) (hr : XR X (some .char)) {Q : Int → Hp → Prop} {h : Hp} (hw : g_J10_charAt x0 x1 Q h) : Wx G X h0 (QI Q) h 0 [some (rV x0), some (iV x1)] [] := by
  refine Wx.start (fun EB => ?_)
  unfold g_J10_charAt at hw
  refine x_iload_n HE 1 dJ10_charAt_0 rfl rfl ?_
  refine x_aload_n HE 0 dJ10_charAt_1 rfl rfl ?_
  obtain ⟨v2, hw⟩ := hw
  refine x_alenB HE dJ10_charAt_2 v2 rfl ?_
  refine x_callS HE dJ10_charAt_3 rfl (fun l => k_J5_checkIndex  l hw) (As := [iV x1, iV (hL h x0)]) (rest := []) rfl (lw_S q2004 q505 q136 q506) hy_J5_checkIndex.2 rfl rfl (Nat.le_of_ble_eq_true rfl) (Nat.le_of_ble_eq_true rfl) (Nat.le_of_ble_eq_true rfl) (kkV (fun m3 E3 hw => ?_))
  have hw := hw E3
  refine x_aload_n HE 0 dJ10_charAt_6 rfl rfl ?_
  refine x_iload_n HE 1 dJ10_charAt_7 rfl rfl ?_
  obtain ⟨i8, hw⟩ := hw
  refine x_baldB HE dJ10_charAt_8 (v2.ext E3) i8 rfl ?_
  refine x_sipush HE dJ10_charAt_9 (by decide) ?_
  refine x_iand HE dJ10_charAt_12 ?_
  refine x_i2c HE dJ10_charAt_13 ?_
  exact x_cret HE hr dJ10_charAt_14 hw.1 hw.2
theorem k_J10_charAt {G : GT} {x0 x1 : Int} {Q : Int → Hp → Prop} {h : Hp} (l : Launch) (hw : g_J10_charAt x0 x1 Q h) : XM G l yJ10_charAt cJ10_charAt 2 (some .char) 2 43 [rV x0, iV x1] (QI Q) h :=
  XM.of (by decide) (Nat.le_of_ble_eq_true rfl) (fun X HE hr hn => w_J10_charAt_0 HE hr  hw)
def g_J5_charAt (x0 x1 : Int) (Q : Int → Hp → Prop) (h : Hp) : Prop :=
  g_J5_isLatin1 x0 (fun r1 m1 => Ext h m1 → (((r1 = 0) → (False)) ∧ ((r1 ≠ 0) → (g_J10_charAt (hF m1 x0 0) x1 (fun r12 m12 => Ext m1 m12 → ((0 ≤ r12 ∧ r12 ≤ 65535) ∧ Q r12 m12)) m1)))) h
theorem w_J5_charAt_0 {G : GT} {X : ET} {h0 : Hp} {x0 x1 : Int} (HE : XE G X cJ5_charAt 2 RJ5 3 64 h0) (hr : XR X (some .char)) (f0 : Strg h0 x0) {Q : Int → Hp → Prop} {h : Hp} (hw : g_J5_charAt x0 x1 Q h) : Wx G X h0 (QI Q) h 0 [some (rV x0), some (iV x1)] [] := by
  refine Wx.start (fun EB => ?_)
  unfold g_J5_charAt at hw
  refine x_aload_n HE 0 dJ5_charAt_0 rfl rfl ?_
  refine x_callV (t := hT h x0) HE dJ5_charAt_1 rfl (fun l => k_J5_isLatin1 (f0.ext EB) l hw) (As := []) (rest := []) rfl (Strg.xc (f0.ext EB)) rfl (lw_V q604 q605 q606 q136 q607) hy_J5_isLatin1 rfl rfl (Nat.le_of_ble_eq_true rfl) (Nat.le_of_ble_eq_true rfl) (Nat.le_of_ble_eq_true rfl) (kkI (fun r1 m1 E1 hw => ?_))
  have hw := hw E1
  refine x_if_eq HE 16 dJ5_charAt_4 (by decide) (fun c4 => ?_) (fun c4 => ?_)
  · have hw := hw.1 c4
    refine x_aload_n HE 0 dJ5_charAt_16 rfl rfl ?_
    refine x_gStr0 HE dJ5_charAt_17 q560 (Or.inl rfl) (f0.ext (EB.tr E1)) rfl ?_
    refine x_iload_n HE 1 dJ5_charAt_20 rfl rfl ?_
    exact hw.elim
  · have hw := hw.2 c4
    refine x_aload_n HE 0 dJ5_charAt_7 rfl rfl ?_
    refine x_gStr0 HE dJ5_charAt_8 q560 (Or.inl rfl) (f0.ext (EB.tr E1)) rfl ?_
    refine x_iload_n HE 1 dJ5_charAt_11 rfl rfl ?_
    refine x_callS HE dJ5_charAt_12 rfl (fun l => k_J10_charAt  l hw) (As := [rV (hF m1 x0 0), iV x1]) (rest := []) rfl (lw_S q2001 q2002 q142 q2003) hy_J10_charAt.2 rfl rfl (Nat.le_of_ble_eq_true rfl) (Nat.le_of_ble_eq_true rfl) (Nat.le_of_ble_eq_true rfl) (kkI (fun r12 m12 E12 hw => ?_))
    have hw := hw E12
    exact x_cret HE hr dJ5_charAt_15 hw.1 hw.2
theorem k_J5_charAt {G : GT} {x0 x1 : Int} {Q : Int → Hp → Prop} {h : Hp} (f0 : Strg h x0) (l : Launch) (hw : g_J5_charAt x0 x1 Q h) : XM G l yJ5_charAt cJ5_charAt 2 (some .char) 3 64 [rV x0, iV x1] (QI Q) h :=
  XM.of (by decide) (Nat.le_of_ble_eq_true rfl) (fun X HE hr hn => w_J5_charAt_0 HE hr f0 hw)
