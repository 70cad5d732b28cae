/-! written by tools/mkgen2.py -/
set_option maxRecDepth 100000
def g_X6_init (x0 x1 x2 : Int) (Q : Hp → Prop) (h : Hp) : Prop :=
  (hF h x0 0 = 0) ∧ (∀ m6 : Hp, m6 = setF h x0 0 x1 → (∀ m11 : Hp, m11 = setF m6 x0 1 x2 → (Q m11)))
theorem w_X6_init_0 {G : GT} {X : ET} {h0 : Hp} {x0 x1 x2 : Int} (HE : XE G X cX6_init 3 RX6 1 20 h0) (hr : XR X none) (hn : XN X "<init>") (f0 : hT h0 x0 = 19) {Q : Hp → Prop} {h : Hp} (hw : g_X6_init x0 x1 x2 Q h) : Wx G X h0 (QV Q) h 0 [some (rV x0), some (rV x1), some (iV x2)] [] := by
  refine Wx.start (fun EB => ?_)
  unfold g_X6_init at hw
  refine x_aload_n HE 0 dX6_init_0 rfl rfl ?_
  refine Wx.wf (fun wf1 => ?_)
  refine x_objInit HE dX6_init_1 rfl q290 q170 q171 (tag_pos wf1 (EB.tag f0 (by decide)) (by decide)) (Nat.le_of_ble_eq_true rfl) (Nat.le_of_ble_eq_true rfl) (Nat.le_of_ble_eq_true rfl) ?_
  refine x_aload_n HE 0 dX6_init_4 rfl rfl ?_
  refine x_aload_n HE 1 dX6_init_5 rfl rfl ?_
  obtain ⟨z6, hw⟩ := hw
  refine x_pR HE dX6_init_6 fd_X6_0 q291 (Or.inl rfl) (Or.inr ⟨rfl, hn, rfl⟩) (nf_arr _ _) (EB.tag f0 (by decide)) (nro (by decide)) (Or.inr z6) (fun m6 em6 E6 => ?_)
  have hw := hw m6 em6
  refine x_aload_n HE 0 dX6_init_9 rfl rfl ?_
  refine x_iload_n HE 2 dX6_init_10 rfl rfl ?_
  refine x_pI HE dX6_init_11 fd_X6_1 q292 (Or.inl rfl) (Or.inr ⟨rfl, hn, rfl⟩) (nf_int _) ((EB.tr E6).tag f0 (by decide)) (nro (by decide)) (Or.inl nf_X6_1) (fun m11 em11 E11 => ?_)
  have hw := hw m11 em11
  exact x_vret HE hr dX6_init_14 hw
theorem k_X6_init {G : GT} {x0 x1 x2 : Int} {Q : Hp → Prop} {h : Hp} (f0 : hT h x0 = 19) (l : Launch) (hw : g_X6_init x0 x1 x2 Q h) : XM G l yX6_init cX6_init 3 none 1 20 [rV x0, rV x1, iV x2] (QV Q) h :=
  XM.of (by decide) (Nat.le_of_ble_eq_true rfl) (fun X HE hr hn => w_X6_init_0 HE hr hn f0 hw)
def g_X6_look_b28 (x0 : Int) (Q : Int → Hp → Prop) (s0 : Int) (h : Hp) : Prop :=
  Q s0 h
theorem w_X6_look_28 {G : GT} {X : ET} {h0 : Hp} {x0 : Int} (HE : XE G X cX6_look 1 RX6 0 0 h0) (hr : XR X (some .int)) (f0 : hT h0 x0 = 19) {Q : Int → Hp → Prop} {s0 : Int} {h : Hp} (hw : g_X6_look_b28 x0 Q s0 h) : Wx G X h0 (QI Q) h 28 [some (rV x0)] [iV s0] := by
  refine Wx.start (fun EB => ?_)
  unfold g_X6_look_b28 at hw
  exact x_iret HE hr dX6_look_28 hw
def g_X6_look (x0 : Int) (Q : Int → Hp → Prop) (h : Hp) : Prop :=
  (((hF h x0 1) ≤ (hF h x0 2)) → (g_X6_look_b28 x0 Q (-1) h)) ∧ (((hF h x0 2) < (hF h x0 1)) → ((hT h (hF h x0 0) = 2) ∧ (((0 : Int) ≤ (hF h x0 2) ∧ (hF h x0 2) < hL h (hF h x0 0)) ∧ (g_X6_look_b28 x0 Q (bAnd (hA h (hF h x0 0) (hF h x0 2)) 255) h))))
theorem w_X6_look_0 {G : GT} {X : ET} {h0 : Hp} {x0 : Int} (HE : XE G X cX6_look 1 RX6 0 0 h0) (hr : XR X (some .int)) (f0 : hT h0 x0 = 19) {Q : Int → Hp → Prop} {h : Hp} (hw : g_X6_look x0 Q h) : Wx G X h0 (QI Q) h 0 [some (rV x0)] [] := by
  refine Wx.start (fun EB => ?_)
  unfold g_X6_look at hw
  refine x_aload_n HE 0 dX6_look_0 rfl rfl ?_
  refine x_gI HE dX6_look_1 fd_X6_2 q293 (Or.inl rfl) (EB.tag f0 (by decide)) rfl ?_
  refine x_aload_n HE 0 dX6_look_4 rfl rfl ?_
  refine x_gI HE dX6_look_5 fd_X6_1 q292 (Or.inl rfl) (EB.tag f0 (by decide)) rfl ?_
  refine x_ic_ge HE 27 dX6_look_8 (by decide) (fun c8 => ?_) (fun c8 => ?_)
  · have hw := hw.1 c8
    refine x_iconst HE dX6_look_27 (by decide) ?_
    exact w_X6_look_28 HE hr f0 hw
  · have hw := hw.2 c8
    refine x_aload_n HE 0 dX6_look_11 rfl rfl ?_
    refine x_gR HE dX6_look_12 fd_X6_0 q291 (Or.inl rfl) (EB.tag f0 (by decide)) rfl ?_
    refine x_aload_n HE 0 dX6_look_15 rfl rfl ?_
    refine x_gI HE dX6_look_16 fd_X6_2 q293 (Or.inl rfl) (EB.tag f0 (by decide)) rfl ?_
    obtain ⟨v19, hw⟩ := hw
    obtain ⟨i19, hw⟩ := hw
    refine x_bald HE dX6_look_19 (t := 2) (by decide) v19 i19 rfl ?_
    refine x_sipush HE dX6_look_20 (by decide) ?_
    refine x_iand HE dX6_look_23 ?_
    refine x_goto HE 28 dX6_look_24 (by decide) ?_
    exact w_X6_look_28 HE hr f0 hw
theorem k_X6_look {G : GT} {x0 : Int} {Q : Int → Hp → Prop} {h : Hp} (f0 : hT h x0 = 19) (l : Launch) (hw : g_X6_look x0 Q h) : XM G l yX6_look cX6_look 1 (some .int) 0 0 [rV x0] (QI Q) h :=
  XM.of (by decide) (Nat.le_of_ble_eq_true rfl) (fun X HE hr hn => w_X6_look_0 HE hr f0 hw)
def g_X8_init (x0 x1 x2 x3 x4 : Int) (Q : Hp → Prop) (h : Hp) : Prop :=
  ∀ m6 : Hp, m6 = setF h x0 0 x1 → (∀ m11 : Hp, m11 = setF m6 x0 1 x2 → (∀ m16 : Hp, m16 = setF m11 x0 2 x3 → ((hF m16 x0 3 = 0) ∧ (∀ m22 : Hp, m22 = setF m16 x0 3 x4 → (Q m22)))))
theorem w_X8_init_0 {G : GT} {X : ET} {h0 : Hp} {x0 x1 x2 x3 x4 : Int} (HE : XE G X cX8_init 5 RX8 1 20 h0) (hr : XR X none) (hn : XN X "<init>") (f0 : hT h0 x0 = 18) {Q : Hp → Prop} {h : Hp} (hw : g_X8_init x0 x1 x2 x3 x4 Q h) : Wx G X h0 (QV Q) h 0 [some (rV x0), some (iV x1), some (iV x2), some (iV x3), some (rV x4)] [] := by
  refine Wx.start (fun EB => ?_)
  unfold g_X8_init at hw
  refine x_aload_n HE 0 dX8_init_0 rfl rfl ?_
  refine Wx.wf (fun wf1 => ?_)
  refine x_objInit HE dX8_init_1 rfl q365 q170 q171 (tag_pos wf1 (EB.tag f0 (by decide)) (by decide)) (Nat.le_of_ble_eq_true rfl) (Nat.le_of_ble_eq_true rfl) (Nat.le_of_ble_eq_true rfl) ?_
  refine x_aload_n HE 0 dX8_init_4 rfl rfl ?_
  refine x_iload_n HE 1 dX8_init_5 rfl rfl ?_
  refine x_pI HE dX8_init_6 fd_X8_0 q366 (Or.inl rfl) (Or.inr ⟨rfl, hn, rfl⟩) (nf_int _) (EB.tag f0 (by decide)) (nro (by decide)) (Or.inl nf_X8_0) (fun m6 em6 E6 => ?_)
  have hw := hw m6 em6
  refine x_aload_n HE 0 dX8_init_9 rfl rfl ?_
  refine x_iload_n HE 2 dX8_init_10 rfl rfl ?_
  refine x_pI HE dX8_init_11 fd_X8_1 q368 (Or.inl rfl) (Or.inr ⟨rfl, hn, rfl⟩) (nf_int _) ((EB.tr E6).tag f0 (by decide)) (nro (by decide)) (Or.inl nf_X8_1) (fun m11 em11 E11 => ?_)
  have hw := hw m11 em11
  refine x_aload_n HE 0 dX8_init_14 rfl rfl ?_
  refine x_iload_n HE 3 dX8_init_15 rfl rfl ?_
  refine x_pI HE dX8_init_16 fd_X8_2 q370 (Or.inl rfl) (Or.inr ⟨rfl, hn, rfl⟩) (nf_int _) ((EB.tr (E6.tr E11)).tag f0 (by decide)) (nro (by decide)) (Or.inl nf_X8_2) (fun m16 em16 E16 => ?_)
  have hw := hw m16 em16
  refine x_aload_n HE 0 dX8_init_19 rfl rfl ?_
  refine x_aload HE dX8_init_20 rfl ?_
  obtain ⟨z22, hw⟩ := hw
  refine x_pR HE dX8_init_22 fd_X8_3 q372 (Or.inl rfl) (Or.inr ⟨rfl, hn, rfl⟩) (nf_obj _ _) ((EB.tr (E6.tr (E11.tr E16))).tag f0 (by decide)) (nro (by decide)) (Or.inr z22) (fun m22 em22 E22 => ?_)
  have hw := hw m22 em22
  exact x_vret HE hr dX8_init_25 hw
theorem k_X8_init {G : GT} {x0 x1 x2 x3 x4 : Int} {Q : Hp → Prop} {h : Hp} (f0 : hT h x0 = 18) (l : Launch) (hw : g_X8_init x0 x1 x2 x3 x4 Q h) : XM G l yX8_init cX8_init 5 none 1 20 [rV x0, iV x1, iV x2, iV x3, rV x4] (QV Q) h :=
  XM.of (by decide) (Nat.le_of_ble_eq_true rfl) (fun X HE hr hn => w_X8_init_0 HE hr hn f0 hw)
def g_X6_next_b280 (x0 : Int) (Q : Int → Hp → Prop) (l1 l2 s0 s1 s2 : Int) (h : Hp) : Prop :=
  (hT h s1 = 18) ∧ (g_X8_init s1 s2 l1 l2 (hF h 0 1) (fun m284 => Ext h m284 → (Q s0 m284)) h)
theorem w_X6_next_280 {G : GT} {X : ET} {h0 : Hp} {x0 : Int} (HE : XE G X cX6_next 3 RX6 6 171 h0) (hr : XR X (some (.object "NextAtBar$Token"))) (f0 : hT h0 x0 = 19) {Q : Int → Hp → Prop} {l1 l2 s0 s1 s2 : Int} {h : Hp} (hw : g_X6_next_b280 x0 Q l1 l2 s0 s1 s2 h) : Wx G X h0 (QR Q) h 280 [some (rV x0), some (iV l1), some (iV l2)] [iV s2, rV s1, rV s0] := by
  refine Wx.start (fun EB => ?_)
  unfold g_X6_next_b280 at hw
  refine x_iload_n HE 1 dX6_next_280 rfl rfl ?_
  refine x_iload_n HE 2 dX6_next_281 rfl rfl ?_
  refine x_ldcS (k := 0) HE dX6_next_282 (List.mem_of_getElem? (i := 0) rfl) (fun hp282 => ?_)
  obtain ⟨u284_0, hw⟩ := hw
  refine Wx.wf (fun wf284 => ?_)
  refine x_callI HE dX6_next_284 rfl (fun l => k_X8_init u284_0 l hw) (As := [iV s2, iV l1, iV l2, rV (hF h 0 1)]) (rest := [rV s0]) rfl (tag_pos wf284 u284_0 (by decide)) q362 q133 q363 q364 rfl hy_X8_init.2 rfl rfl (Nat.le_of_ble_eq_true rfl) (Nat.le_of_ble_eq_true rfl) (Nat.le_of_ble_eq_true rfl) (kkV (fun m284 E284 hw => ?_))
  have hw := hw E284
  exact x_aret HE hr (Or.inl ⟨_, rfl⟩) dX6_next_287 hw
def g_X6_next_b275 (x0 : Int) (Q : Int → Hp → Prop) (l1 l2 s0 s1 : Int) (h : Hp) : Prop :=
  g_X6_next_b280 x0 Q l1 l2 s0 s1 4 h
theorem w_X6_next_275 {G : GT} {X : ET} {h0 : Hp} {x0 : Int} (HE : XE G X cX6_next 3 RX6 6 171 h0) (hr : XR X (some (.object "NextAtBar$Token"))) (f0 : hT h0 x0 = 19) {Q : Int → Hp → Prop} {l1 l2 s0 s1 : Int} {h : Hp} (hw : g_X6_next_b275 x0 Q l1 l2 s0 s1 h) : Wx G X h0 (QR Q) h 275 [some (rV x0), some (iV l1), some (iV l2)] [rV s1, rV s0] := by
  refine Wx.start (fun EB => ?_)
  unfold g_X6_next_b275 at hw
  refine x_iconst HE dX6_next_275 (by decide) ?_
  refine x_goto HE 280 dX6_next_276 (by decide) ?_
  exact w_X6_next_280 HE hr f0 hw
def g_X6_next_b236 (x0 : Int) (Q : Int → Hp → Prop) (l1 l2 s0 s1 s2 : Int) (h : Hp) : Prop :=
  (hT h s1 = 18) ∧ (g_X8_init s1 s2 l1 l2 (hF h 0 1) (fun m240 => Ext h m240 → (Q s0 m240)) h)
theorem w_X6_next_236 {G : GT} {X : ET} {h0 : Hp} {x0 : Int} (HE : XE G X cX6_next 3 RX6 6 171 h0) (hr : XR X (some (.object "NextAtBar$Token"))) (f0 : hT h0 x0 = 19) {Q : Int → Hp → Prop} {l1 l2 s0 s1 s2 : Int} {h : Hp} (hw : g_X6_next_b236 x0 Q l1 l2 s0 s1 s2 h) : Wx G X h0 (QR Q) h 236 [some (rV x0), some (iV l1), some (iV l2)] [iV s2, rV s1, rV s0] := by
  refine Wx.start (fun EB => ?_)
  unfold g_X6_next_b236 at hw
  refine x_iload_n HE 1 dX6_next_236 rfl rfl ?_
  refine x_iload_n HE 2 dX6_next_237 rfl rfl ?_
  refine x_ldcS (k := 0) HE dX6_next_238 (List.mem_of_getElem? (i := 0) rfl) (fun hp238 => ?_)
  obtain ⟨u240_0, hw⟩ := hw
  refine Wx.wf (fun wf240 => ?_)
  refine x_callI HE dX6_next_240 rfl (fun l => k_X8_init u240_0 l hw) (As := [iV s2, iV l1, iV l2, rV (hF h 0 1)]) (rest := [rV s0]) rfl (tag_pos wf240 u240_0 (by decide)) q362 q133 q363 q364 rfl hy_X8_init.2 rfl rfl (Nat.le_of_ble_eq_true rfl) (Nat.le_of_ble_eq_true rfl) (Nat.le_of_ble_eq_true rfl) (kkV (fun m240 E240 hw => ?_))
  have hw := hw E240
  exact x_aret HE hr (Or.inl ⟨_, rfl⟩) dX6_next_243 hw
def g_X6_next_b217 (x0 : Int) (Q : Int → Hp → Prop) (l1 l2 : Int) (h : Hp) : Prop :=
  (capOK h 4) ∧ (∀ (a217 : Int) (m217 : Hp), a217 = hN h → m217 = alloc h 18 0 4 → WFa h → ((i32 ((hF m217 x0 2) - l1)) ∧ (((((hF m217 x0 2) - l1) ≤ 3) → (g_X6_next_b236 x0 Q l1 l2 a217 a217 3 m217)) ∧ ((3 < ((hF m217 x0 2) - l1)) → (g_X6_next_b236 x0 Q l1 l2 a217 a217 0 m217)))))
theorem w_X6_next_217 {G : GT} {X : ET} {h0 : Hp} {x0 : Int} (HE : XE G X cX6_next 3 RX6 6 171 h0) (hr : XR X (some (.object "NextAtBar$Token"))) (f0 : hT h0 x0 = 19) {Q : Int → Hp → Prop} {l1 l2 : Int} {h : Hp} (hw : g_X6_next_b217 x0 Q l1 l2 h) : Wx G X h0 (QR Q) h 217 [some (rV x0), some (iV l1), some (iV l2)] [] := by
  refine Wx.start (fun EB => ?_)
  unfold g_X6_next_b217 at hw
  obtain ⟨v217, hw⟩ := hw
  refine x_newN HE dX6_next_217 xc18 (by decide) (nro (by decide)) q359 q360 q133 v217 (fun a217 m217 ea217 em217 E217 w217 => ?_)
  have hw := hw a217 m217 ea217 em217 w217
  have t217 := alloc_tag ea217 em217
  refine x_dup HE dX6_next_220 (fun o => o) ?_
  refine x_aload_n HE 0 dX6_next_221 rfl rfl ?_
  refine x_gI HE dX6_next_222 fd_X6_2 q293 (Or.inl rfl) ((EB.tr E217).tag f0 (by decide)) rfl ?_
  refine x_iload_n HE 1 dX6_next_225 rfl rfl ?_
  obtain ⟨v226, hw⟩ := hw
  refine x_isub HE dX6_next_226 v226 ?_
  refine x_iconst HE dX6_next_227 (by decide) ?_
  refine x_ic_le HE 235 dX6_next_228 (by decide) (fun c228 => ?_) (fun c228 => ?_)
  · have hw := hw.1 c228
    refine x_iconst HE dX6_next_235 (by decide) ?_
    exact w_X6_next_236 HE hr f0 hw
  · have hw := hw.2 c228
    refine x_iconst HE dX6_next_231 (by decide) ?_
    refine x_goto HE 236 dX6_next_232 (by decide) ?_
    exact w_X6_next_236 HE hr f0 hw
def g_X6_next_b204 (x0 : Int) (Q : Int → Hp → Prop) (K167 : Int → Int → Hp → Prop) (l1 l2 : Int) (h : Hp) : Prop :=
  (i32 ((hF h x0 2) + 1)) ∧ (∀ m211 : Hp, m211 = setF h x0 2 ((hF h x0 2) + 1) → (K167 l1 l2 m211))
theorem w_X6_next_204 {G : GT} {X : ET} {h0 : Hp} {x0 : Int} (HE : XE G X cX6_next 3 RX6 6 171 h0) (hr : XR X (some (.object "NextAtBar$Token"))) (f0 : hT h0 x0 = 19) {Q : Int → Hp → Prop} {K167 : Int → Int → Hp → Prop} (hK167 : ∀ (l1 l2 : Int) (h : Hp), K167 l1 l2 h → Wx G X h0 (QR Q) h 167 [some (rV x0), some (iV l1), some (iV l2)] []) {l1 l2 : Int} {h : Hp} (hw : g_X6_next_b204 x0 Q K167 l1 l2 h) : Wx G X h0 (QR Q) h 204 [some (rV x0), some (iV l1), some (iV l2)] [] := by
  refine Wx.start (fun EB => ?_)
  unfold g_X6_next_b204 at hw
  refine x_aload_n HE 0 dX6_next_204 rfl rfl ?_
  refine x_dup HE dX6_next_205 (fun o => o) ?_
  refine x_gI HE dX6_next_206 fd_X6_2 q293 (Or.inl rfl) (EB.tag f0 (by decide)) rfl ?_
  refine x_iconst HE dX6_next_209 (by decide) ?_
  obtain ⟨v210, hw⟩ := hw
  refine x_iadd HE dX6_next_210 v210 ?_
  refine x_pI HE dX6_next_211 fd_X6_2 q293 (Or.inl rfl) (Or.inl rfl) (nf_int _) (EB.tag f0 (by decide)) (nro (by decide)) (Or.inl nf_X6_2) (fun m211 em211 E211 => ?_)
  have hw := hw m211 em211
  refine x_goto HE 167 dX6_next_214 (by decide) ?_
  exact hK167 _ _ _ hw
def g_X6_next_L167 (x0 : Int) (Q : Int → Hp → Prop) (K167 : Int → Int → Hp → Prop) (l1 l2 : Int) (h : Hp) : Prop :=
  g_X6_look x0 (fun r168 m168 => Ext h m168 → (g_X1_in r168 48 57 (fun r175 m175 => Ext m168 m175 → (((r175 = 0) → (g_X6_next_b217 x0 Q l1 l2 m175)) ∧ ((r175 ≠ 0) → ((i32 ((hF m175 x0 2) - l1)) ∧ (((3 ≤ ((hF m175 x0 2) - l1)) → (g_X6_next_b204 x0 Q K167 l1 l2 m175)) ∧ ((((hF m175 x0 2) - l1) < 3) → ((i32 (10 * l2)) ∧ (g_X6_look x0 (fun r196 m196 => Ext m175 m196 → ((i32 ((10 * l2) + r196)) ∧ ((i32 (((10 * l2) + r196) - 48)) ∧ (∀ y203 : Int, y203 = (((10 * l2) + r196) - 48) → (g_X6_next_b204 x0 Q K167 l1 y203 m196))))) m175)))))))) m168)) h
theorem w_X6_next_167 {G : GT} {X : ET} {h0 : Hp} {x0 : Int} (HE : XE G X cX6_next 3 RX6 6 171 h0) (hr : XR X (some (.object "NextAtBar$Token"))) (f0 : hT h0 x0 = 19) {Q : Int → Hp → Prop} {K167 : Int → Int → Hp → Prop} (hK167 : ∀ (l1 l2 : Int) (h : Hp), K167 l1 l2 h → Wx G X h0 (QR Q) h 167 [some (rV x0), some (iV l1), some (iV l2)] []) {l1 l2 : Int} {h : Hp} (hw : g_X6_next_L167 x0 Q K167 l1 l2 h) : Wx G X h0 (QR Q) h 167 [some (rV x0), some (iV l1), some (iV l2)] [] := by
  refine Wx.start (fun EB => ?_)
  unfold g_X6_next_L167 at hw
  refine x_aload_n HE 0 dX6_next_167 rfl rfl ?_
  refine x_callV HE dX6_next_168 rfl (fun l => k_X6_look (EB.tag f0 (by decide)) l hw) (As := []) (rest := []) rfl xc19 (EB.tag f0 (by decide)) (lw_V q355 q357 qs1 q131 q358) hy_X6_look rfl rfl (Nat.le_of_ble_eq_true rfl) (Nat.le_of_ble_eq_true rfl) (Nat.le_of_ble_eq_true rfl) (kkI (fun r168 m168 E168 hw => ?_))
  have hw := hw E168
  refine x_bipush HE dX6_next_171 (by decide) ?_
  refine x_bipush HE dX6_next_173 (by decide) ?_
  refine x_callSN HE dX6_next_175 rfl (fun l => k_X1_in  l hw) (As := [iV r168, iV 48, iV 57]) (rest := []) rfl (List.mem_of_getElem? (i := 1) rfl) q123 q277 q278 hy_X1_in.2 rfl rfl (Nat.le_of_ble_eq_true rfl) (Nat.le_of_ble_eq_true rfl) (Nat.le_of_ble_eq_true rfl) (kkI (fun r175 m175 E175 hw => ?_))
  have hw := hw E175
  refine x_if_eq HE 217 dX6_next_178 (by decide) (fun c178 => ?_) (fun c178 => ?_)
  · have hw := hw.1 c178
    exact w_X6_next_217 HE hr f0 hw
  · have hw := hw.2 c178
    refine x_aload_n HE 0 dX6_next_181 rfl rfl ?_
    refine x_gI HE dX6_next_182 fd_X6_2 q293 (Or.inl rfl) ((EB.tr (E168.tr E175)).tag f0 (by decide)) rfl ?_
    refine x_iload_n HE 1 dX6_next_185 rfl rfl ?_
    obtain ⟨v186, hw⟩ := hw
    refine x_isub HE dX6_next_186 v186 ?_
    refine x_iconst HE dX6_next_187 (by decide) ?_
    refine x_ic_ge HE 204 dX6_next_188 (by decide) (fun c188 => ?_) (fun c188 => ?_)
    · have hw := hw.1 c188
      exact w_X6_next_204 HE hr f0 hK167 hw
    · have hw := hw.2 c188
      refine x_bipush HE dX6_next_191 (by decide) ?_
      refine x_iload_n HE 2 dX6_next_193 rfl rfl ?_
      obtain ⟨v194, hw⟩ := hw
      refine x_imul HE dX6_next_194 v194 ?_
      refine x_aload_n HE 0 dX6_next_195 rfl rfl ?_
      refine x_callV HE dX6_next_196 rfl (fun l => k_X6_look ((EB.tr (E168.tr E175)).tag f0 (by decide)) l hw) (As := []) (rest := [iV (10 * l2)]) rfl xc19 ((EB.tr (E168.tr E175)).tag f0 (by decide)) (lw_V q355 q357 qs1 q131 q358) hy_X6_look rfl rfl (Nat.le_of_ble_eq_true rfl) (Nat.le_of_ble_eq_true rfl) (Nat.le_of_ble_eq_true rfl) (kkI (fun r196 m196 E196 hw => ?_))
      have hw := hw E196
      obtain ⟨v199, hw⟩ := hw
      refine x_iadd HE dX6_next_199 v199 ?_
      refine x_bipush HE dX6_next_200 (by decide) ?_
      obtain ⟨v202, hw⟩ := hw
      refine x_isub HE dX6_next_202 v202 ?_
      refine x_istore_nN HE 2 (fun y203 => [some (rV x0), some (iV l1), some (iV y203)]) dX6_next_203 rfl (Nat.le_of_ble_eq_true rfl) (fun _ => rfl) (fun y203 ey203 => ?_)
      have hw := hw y203 ey203
      exact w_X6_next_204 HE hr f0 hK167 hw
theorem wl_X6_next_167 {G : GT} {X : ET} {h0 : Hp} {x0 : Int} (HE : XE G X cX6_next 3 RX6 6 171 h0) (hr : XR X (some (.object "NextAtBar$Token"))) (f0 : hT h0 x0 = 19) {Q : Int → Hp → Prop} {l1 l2 : Int} {h : Hp} (hw : Lp2 (g_X6_next_L167 x0 Q) l1 l2 h) : Wx G X h0 (QR Q) h 167 [some (rV x0), some (iV l1), some (iV l2)] [] := by
  obtain ⟨n, hw⟩ := hw
  induction n generalizing l1 l2 h with
  | zero => exact hw.elim
  | succ n ih => exact w_X6_next_167 HE hr f0 (fun _ _ _ hk => ih hk) hw
def g_X6_next_b141 (x0 : Int) (Q : Int → Hp → Prop) (l1 l2 s0 s1 s2 : Int) (h : Hp) : Prop :=
  (hT h l2 = 34) ∧ (g_J4_toString l2 (fun r144 m144 => Ext h m144 → ((hT m144 s1 = 18) ∧ (g_X8_init s1 s2 l1 0 r144 (fun m147 => Ext m144 m147 → (Q s0 m147)) m144))) h)
theorem w_X6_next_141 {G : GT} {X : ET} {h0 : Hp} {x0 : Int} (HE : XE G X cX6_next 3 RX6 6 171 h0) (hr : XR X (some (.object "NextAtBar$Token"))) (f0 : hT h0 x0 = 19) {Q : Int → Hp → Prop} {l1 l2 s0 s1 s2 : Int} {h : Hp} (hw : g_X6_next_b141 x0 Q l1 l2 s0 s1 s2 h) : Wx G X h0 (QR Q) h 141 [some (rV x0), some (iV l1), some (rV l2)] [iV s2, rV s1, rV s0] := by
  refine Wx.start (fun EB => ?_)
  unfold g_X6_next_b141 at hw
  refine x_iload_n HE 1 dX6_next_141 rfl rfl ?_
  refine x_iconst HE dX6_next_142 (by decide) ?_
  refine x_aload_n HE 2 dX6_next_143 rfl rfl ?_
  obtain ⟨u144_0, hw⟩ := hw
  refine x_callV HE dX6_next_144 rfl (fun l => k_J4_toString u144_0 l hw) (As := []) (rest := [iV 0, iV l1, iV s2, rV s1, rV s0]) rfl xc34 u144_0 (lw_V q510 q511 q512 q135 q513) hy_J4_toString rfl rfl (Nat.le_of_ble_eq_true rfl) (Nat.le_of_ble_eq_true rfl) (Nat.le_of_ble_eq_true rfl) (kkR (fun r144 m144 E144 hw => ?_))
  have hw := hw E144
  obtain ⟨u147_0, hw⟩ := hw
  refine Wx.wf (fun wf147 => ?_)
  refine x_callI HE dX6_next_147 rfl (fun l => k_X8_init u147_0 l hw) (As := [iV s2, iV l1, iV 0, rV r144]) (rest := [rV s0]) rfl (tag_pos wf147 u147_0 (by decide)) q362 q133 q363 q364 rfl hy_X8_init.2 rfl rfl (Nat.le_of_ble_eq_true rfl) (Nat.le_of_ble_eq_true rfl) (Nat.le_of_ble_eq_true rfl) (kkV (fun m147 E147 hw => ?_))
  have hw := hw E147
  exact x_aret HE hr (Or.inl ⟨_, rfl⟩) dX6_next_150 hw
def g_X6_next_b121 (x0 : Int) (Q : Int → Hp → Prop) (l1 l2 : Int) (h : Hp) : Prop :=
  (capOK h 4) ∧ (∀ (a121 : Int) (m121 : Hp), a121 = hN h → m121 = alloc h 18 0 4 → WFa h → ((i32 ((hF m121 x0 2) - l1)) ∧ (((((hF m121 x0 2) - l1) ≤ 8) → (g_X6_next_b141 x0 Q l1 l2 a121 a121 2 m121)) ∧ ((8 < ((hF m121 x0 2) - l1)) → (g_X6_next_b141 x0 Q l1 l2 a121 a121 0 m121)))))
theorem w_X6_next_121 {G : GT} {X : ET} {h0 : Hp} {x0 : Int} (HE : XE G X cX6_next 3 RX6 6 171 h0) (hr : XR X (some (.object "NextAtBar$Token"))) (f0 : hT h0 x0 = 19) {Q : Int → Hp → Prop} {l1 l2 : Int} {h : Hp} (hw : g_X6_next_b121 x0 Q l1 l2 h) : Wx G X h0 (QR Q) h 121 [some (rV x0), some (iV l1), some (rV l2)] [] := by
  refine Wx.start (fun EB => ?_)
  unfold g_X6_next_b121 at hw
  obtain ⟨v121, hw⟩ := hw
  refine x_newN HE dX6_next_121 xc18 (by decide) (nro (by decide)) q359 q360 q133 v121 (fun a121 m121 ea121 em121 E121 w121 => ?_)
  have hw := hw a121 m121 ea121 em121 w121
  have t121 := alloc_tag ea121 em121
  refine x_dup HE dX6_next_124 (fun o => o) ?_
  refine x_aload_n HE 0 dX6_next_125 rfl rfl ?_
  refine x_gI HE dX6_next_126 fd_X6_2 q293 (Or.inl rfl) ((EB.tr E121).tag f0 (by decide)) rfl ?_
  refine x_iload_n HE 1 dX6_next_129 rfl rfl ?_
  obtain ⟨v130, hw⟩ := hw
  refine x_isub HE dX6_next_130 v130 ?_
  refine x_bipush HE dX6_next_131 (by decide) ?_
  refine x_ic_le HE 140 dX6_next_133 (by decide) (fun c133 => ?_) (fun c133 => ?_)
  · have hw := hw.1 c133
    refine x_iconst HE dX6_next_140 (by decide) ?_
    exact w_X6_next_141 HE hr f0 hw
  · have hw := hw.2 c133
    refine x_iconst HE dX6_next_136 (by decide) ?_
    refine x_goto HE 141 dX6_next_137 (by decide) ?_
    exact w_X6_next_141 HE hr f0 hw
def g_X6_next_b108 (x0 : Int) (Q : Int → Hp → Prop) (K73 : Int → Int → Hp → Prop) (l1 l2 : Int) (h : Hp) : Prop :=
  (i32 ((hF h x0 2) + 1)) ∧ (∀ m115 : Hp, m115 = setF h x0 2 ((hF h x0 2) + 1) → (K73 l1 l2 m115))
theorem w_X6_next_108 {G : GT} {X : ET} {h0 : Hp} {x0 : Int} (HE : XE G X cX6_next 3 RX6 6 171 h0) (hr : XR X (some (.object "NextAtBar$Token"))) (f0 : hT h0 x0 = 19) {Q : Int → Hp → Prop} {K73 : Int → Int → Hp → Prop} (hK73 : ∀ (l1 l2 : Int) (h : Hp), K73 l1 l2 h → Wx G X h0 (QR Q) h 73 [some (rV x0), some (iV l1), some (rV l2)] []) {l1 l2 : Int} {h : Hp} (hw : g_X6_next_b108 x0 Q K73 l1 l2 h) : Wx G X h0 (QR Q) h 108 [some (rV x0), some (iV l1), some (rV l2)] [] := by
  refine Wx.start (fun EB => ?_)
  unfold g_X6_next_b108 at hw
  refine x_aload_n HE 0 dX6_next_108 rfl rfl ?_
  refine x_dup HE dX6_next_109 (fun o => o) ?_
  refine x_gI HE dX6_next_110 fd_X6_2 q293 (Or.inl rfl) (EB.tag f0 (by decide)) rfl ?_
  refine x_iconst HE dX6_next_113 (by decide) ?_
  obtain ⟨v114, hw⟩ := hw
  refine x_iadd HE dX6_next_114 v114 ?_
  refine x_pI HE dX6_next_115 fd_X6_2 q293 (Or.inl rfl) (Or.inl rfl) (nf_int _) (EB.tag f0 (by decide)) (nro (by decide)) (Or.inl nf_X6_2) (fun m115 em115 E115 => ?_)
  have hw := hw m115 em115
  refine x_goto HE 73 dX6_next_118 (by decide) ?_
  exact hK73 _ _ _ hw
def g_X6_next_L73 (x0 : Int) (Q : Int → Hp → Prop) (K73 : Int → Int → Hp → Prop) (l1 l2 : Int) (h : Hp) : Prop :=
  g_X6_look x0 (fun r74 m74 => Ext h m74 → (g_X1_in r74 97 122 (fun r81 m81 => Ext m74 m81 → (((r81 = 0) → (g_X6_next_b121 x0 Q l1 l2 m81)) ∧ ((r81 ≠ 0) → ((i32 ((hF m81 x0 2) - l1)) ∧ (((8 ≤ ((hF m81 x0 2) - l1)) → (g_X6_next_b108 x0 Q K73 l1 l2 m81)) ∧ ((((hF m81 x0 2) - l1) < 8) → (g_X6_look x0 (fun r100 m100 => Ext m81 m100 → ((hT m100 l2 = 34) ∧ (g_J4_append l2 (bChar r100) (fun r104 m104 => Ext m100 m104 → (g_X6_next_b108 x0 Q K73 l1 l2 m104)) m100))) m81))))))) m74)) h
theorem w_X6_next_73 {G : GT} {X : ET} {h0 : Hp} {x0 : Int} (HE : XE G X cX6_next 3 RX6 6 171 h0) (hr : XR X (some (.object "NextAtBar$Token"))) (f0 : hT h0 x0 = 19) {Q : Int → Hp → Prop} {K73 : Int → Int → Hp → Prop} (hK73 : ∀ (l1 l2 : Int) (h : Hp), K73 l1 l2 h → Wx G X h0 (QR Q) h 73 [some (rV x0), some (iV l1), some (rV l2)] []) {l1 l2 : Int} {h : Hp} (hw : g_X6_next_L73 x0 Q K73 l1 l2 h) : Wx G X h0 (QR Q) h 73 [some (rV x0), some (iV l1), some (rV l2)] [] := by
  refine Wx.start (fun EB => ?_)
  unfold g_X6_next_L73 at hw
  refine x_aload_n HE 0 dX6_next_73 rfl rfl ?_
  refine x_callV HE dX6_next_74 rfl (fun l => k_X6_look (EB.tag f0 (by decide)) l hw) (As := []) (rest := []) rfl xc19 (EB.tag f0 (by decide)) (lw_V q355 q357 qs1 q131 q358) hy_X6_look rfl rfl (Nat.le_of_ble_eq_true rfl) (Nat.le_of_ble_eq_true rfl) (Nat.le_of_ble_eq_true rfl) (kkI (fun r74 m74 E74 hw => ?_))
  have hw := hw E74
  refine x_bipush HE dX6_next_77 (by decide) ?_
  refine x_bipush HE dX6_next_79 (by decide) ?_
  refine x_callSN HE dX6_next_81 rfl (fun l => k_X1_in  l hw) (As := [iV r74, iV 97, iV 122]) (rest := []) rfl (List.mem_of_getElem? (i := 1) rfl) q123 q277 q278 hy_X1_in.2 rfl rfl (Nat.le_of_ble_eq_true rfl) (Nat.le_of_ble_eq_true rfl) (Nat.le_of_ble_eq_true rfl) (kkI (fun r81 m81 E81 hw => ?_))
  have hw := hw E81
  refine x_if_eq HE 121 dX6_next_84 (by decide) (fun c84 => ?_) (fun c84 => ?_)
  · have hw := hw.1 c84
    exact w_X6_next_121 HE hr f0 hw
  · have hw := hw.2 c84
    refine x_aload_n HE 0 dX6_next_87 rfl rfl ?_
    refine x_gI HE dX6_next_88 fd_X6_2 q293 (Or.inl rfl) ((EB.tr (E74.tr E81)).tag f0 (by decide)) rfl ?_
    refine x_iload_n HE 1 dX6_next_91 rfl rfl ?_
    obtain ⟨v92, hw⟩ := hw
    refine x_isub HE dX6_next_92 v92 ?_
    refine x_bipush HE dX6_next_93 (by decide) ?_
    refine x_ic_ge HE 108 dX6_next_95 (by decide) (fun c95 => ?_) (fun c95 => ?_)
    · have hw := hw.1 c95
      exact w_X6_next_108 HE hr f0 hK73 hw
    · have hw := hw.2 c95
      refine x_aload_n HE 2 dX6_next_98 rfl rfl ?_
      refine x_aload_n HE 0 dX6_next_99 rfl rfl ?_
      refine x_callV HE dX6_next_100 rfl (fun l => k_X6_look ((EB.tr (E74.tr E81)).tag f0 (by decide)) l hw) (As := []) (rest := [rV l2]) rfl xc19 ((EB.tr (E74.tr E81)).tag f0 (by decide)) (lw_V q355 q357 qs1 q131 q358) hy_X6_look rfl rfl (Nat.le_of_ble_eq_true rfl) (Nat.le_of_ble_eq_true rfl) (Nat.le_of_ble_eq_true rfl) (kkI (fun r100 m100 E100 hw => ?_))
      have hw := hw E100
      refine x_i2c HE dX6_next_103 ?_
      obtain ⟨u104_0, hw⟩ := hw
      refine x_callV HE dX6_next_104 rfl (fun l => k_J4_append u104_0 l hw) (As := [iV (bChar r100)]) (rest := []) rfl xc34 u104_0 (lw_V q415 q416 q417 q135 q418) hy_J4_append rfl rfl (Nat.le_of_ble_eq_true rfl) (Nat.le_of_ble_eq_true rfl) (Nat.le_of_ble_eq_true rfl) (kkR (fun r104 m104 E104 hw => ?_))
      have hw := hw E104
      refine x_pop HE dX6_next_107 (fun o => o) ?_
      exact w_X6_next_108 HE hr f0 hK73 hw
theorem wl_X6_next_73 {G : GT} {X : ET} {h0 : Hp} {x0 : Int} (HE : XE G X cX6_next 3 RX6 6 171 h0) (hr : XR X (some (.object "NextAtBar$Token"))) (f0 : hT h0 x0 = 19) {Q : Int → Hp → Prop} {l1 l2 : Int} {h : Hp} (hw : Lp2 (g_X6_next_L73 x0 Q) l1 l2 h) : Wx G X h0 (QR Q) h 73 [some (rV x0), some (iV l1), some (rV l2)] [] := by
  obtain ⟨n, hw⟩ := hw
  induction n generalizing l1 l2 h with
  | zero => exact hw.elim
  | succ n ih => exact w_X6_next_73 HE hr f0 (fun _ _ _ hk => ih hk) hw
def g_X6_next_b22 (x0 : Int) (Q : Int → Hp → Prop) (h : Hp) : Prop :=
  ∀ y26 : Int, y26 = (hF h x0 2) → ((((hF h x0 2) ≠ (hF h x0 1)) → (g_X6_look x0 (fun r52 m52 => Ext h m52 → (g_X1_in r52 97 122 (fun r59 m59 => Ext m52 m59 → (((r59 = 0) → (g_X6_look x0 (fun r152 m152 => Ext m59 m152 → (g_X1_in r152 48 57 (fun r159 m159 => Ext m152 m159 → (((r159 = 0) → (g_X6_look x0 (fun r245 m245 => Ext m159 m245 → ((i32 ((hF m245 x0 2) + 1)) ∧ (∀ m256 : Hp, m256 = setF m245 x0 2 ((hF m245 x0 2) + 1) → ((capOK m256 4) ∧ (∀ (a259 : Int) (m259 : Hp), a259 = hN m256 → m259 = alloc m256 18 0 4 → WFa m256 → (((r245 = 59) → (g_X6_next_b275 x0 Q y26 r245 a259 a259 m259)) ∧ ((r245 ≠ 59) → (((r245 ≠ 44) → (g_X6_next_b280 x0 Q y26 r245 a259 a259 0 m259)) ∧ ((r245 = 44) → (g_X6_next_b275 x0 Q y26 r245 a259 a259 m259)))))))))) m159)) ∧ ((r159 ≠ 0) → (Lp2 (g_X6_next_L167 x0 Q) y26 0 m159)))) m152)) m59)) ∧ ((r59 ≠ 0) → ((capOK m59 4) ∧ (∀ (a65 : Int) (m65 : Hp), a65 = hN m59 → m65 = alloc m59 34 0 4 → WFa m59 → (g_J4_init a65 (fun m69 => Ext m65 m69 → (Lp2 (g_X6_next_L73 x0 Q) y26 a65 m69)) m65)))))) m52)) h)) ∧ (((hF h x0 2) = (hF h x0 1)) → ((capOK h 4) ∧ (∀ (a38 : Int) (m38 : Hp), a38 = hN h → m38 = alloc h 18 0 4 → WFa h → (g_X8_init a38 1 y26 0 (hF m38 0 1) (fun m47 => Ext m38 m47 → (Q a38 m47)) m38)))))
theorem w_X6_next_22 {G : GT} {X : ET} {h0 : Hp} {x0 : Int} (HE : XE G X cX6_next 3 RX6 6 171 h0) (hr : XR X (some (.object "NextAtBar$Token"))) (f0 : hT h0 x0 = 19) {Q : Int → Hp → Prop} {h : Hp} (hw : g_X6_next_b22 x0 Q  h) : Wx G X h0 (QR Q) h 22 [some (rV x0), none, none] [] := by
  refine Wx.start (fun EB => ?_)
  unfold g_X6_next_b22 at hw
  refine x_aload_n HE 0 dX6_next_22 rfl rfl ?_
  refine x_gI HE dX6_next_23 fd_X6_2 q293 (Or.inl rfl) (EB.tag f0 (by decide)) rfl ?_
  refine x_istore_nN HE 1 (fun y26 => [some (rV x0), some (iV y26), none]) dX6_next_26 rfl (Nat.le_of_ble_eq_true rfl) (fun _ => rfl) (fun y26 ey26 => ?_)
  have hw := hw y26 ey26
  refine x_aload_n HE 0 dX6_next_27 rfl rfl ?_
  refine x_gI HE dX6_next_28 fd_X6_2 q293 (Or.inl rfl) (EB.tag f0 (by decide)) rfl ?_
  refine x_aload_n HE 0 dX6_next_31 rfl rfl ?_
  refine x_gI HE dX6_next_32 fd_X6_1 q292 (Or.inl rfl) (EB.tag f0 (by decide)) rfl ?_
  refine x_ic_ne HE 51 dX6_next_35 (by decide) (fun c35 => ?_) (fun c35 => ?_)
  · have hw := hw.1 c35
    refine x_aload_n HE 0 dX6_next_51 rfl rfl ?_
    refine x_callV HE dX6_next_52 rfl (fun l => k_X6_look (EB.tag f0 (by decide)) l hw) (As := []) (rest := []) rfl xc19 (EB.tag f0 (by decide)) (lw_V q355 q357 qs1 q131 q358) hy_X6_look rfl rfl (Nat.le_of_ble_eq_true rfl) (Nat.le_of_ble_eq_true rfl) (Nat.le_of_ble_eq_true rfl) (kkI (fun r52 m52 E52 hw => ?_))
    have hw := hw E52
    refine x_bipush HE dX6_next_55 (by decide) ?_
    refine x_bipush HE dX6_next_57 (by decide) ?_
    refine x_callSN HE dX6_next_59 rfl (fun l => k_X1_in  l hw) (As := [iV r52, iV 97, iV 122]) (rest := []) rfl (List.mem_of_getElem? (i := 1) rfl) q123 q277 q278 hy_X1_in.2 rfl rfl (Nat.le_of_ble_eq_true rfl) (Nat.le_of_ble_eq_true rfl) (Nat.le_of_ble_eq_true rfl) (kkI (fun r59 m59 E59 hw => ?_))
    have hw := hw E59
    refine x_if_eq HE 151 dX6_next_62 (by decide) (fun c62 => ?_) (fun c62 => ?_)
    · have hw := hw.1 c62
      refine x_aload_n HE 0 dX6_next_151 rfl rfl ?_
      refine x_callV HE dX6_next_152 rfl (fun l => k_X6_look ((EB.tr (E52.tr E59)).tag f0 (by decide)) l hw) (As := []) (rest := []) rfl xc19 ((EB.tr (E52.tr E59)).tag f0 (by decide)) (lw_V q355 q357 qs1 q131 q358) hy_X6_look rfl rfl (Nat.le_of_ble_eq_true rfl) (Nat.le_of_ble_eq_true rfl) (Nat.le_of_ble_eq_true rfl) (kkI (fun r152 m152 E152 hw => ?_))
      have hw := hw E152
      refine x_bipush HE dX6_next_155 (by decide) ?_
      refine x_bipush HE dX6_next_157 (by decide) ?_
      refine x_callSN HE dX6_next_159 rfl (fun l => k_X1_in  l hw) (As := [iV r152, iV 48, iV 57]) (rest := []) rfl (List.mem_of_getElem? (i := 1) rfl) q123 q277 q278 hy_X1_in.2 rfl rfl (Nat.le_of_ble_eq_true rfl) (Nat.le_of_ble_eq_true rfl) (Nat.le_of_ble_eq_true rfl) (kkI (fun r159 m159 E159 hw => ?_))
      have hw := hw E159
      refine x_if_eq HE 244 dX6_next_162 (by decide) (fun c162 => ?_) (fun c162 => ?_)
      · have hw := hw.1 c162
        refine x_aload_n HE 0 dX6_next_244 rfl rfl ?_
        refine x_callV HE dX6_next_245 rfl (fun l => k_X6_look ((EB.tr (E52.tr (E59.tr (E152.tr E159)))).tag f0 (by decide)) l hw) (As := []) (rest := []) rfl xc19 ((EB.tr (E52.tr (E59.tr (E152.tr E159)))).tag f0 (by decide)) (lw_V q355 q357 qs1 q131 q358) hy_X6_look rfl rfl (Nat.le_of_ble_eq_true rfl) (Nat.le_of_ble_eq_true rfl) (Nat.le_of_ble_eq_true rfl) (kkI (fun r245 m245 E245 hw => ?_))
        have hw := hw E245
        refine x_istore_n HE 2 (lo' := [some (rV x0), some (iV y26), some (iV r245)]) dX6_next_248 rfl (Nat.le_of_ble_eq_true rfl) rfl ?_
        refine x_aload_n HE 0 dX6_next_249 rfl rfl ?_
        refine x_dup HE dX6_next_250 (fun o => o) ?_
        refine x_gI HE dX6_next_251 fd_X6_2 q293 (Or.inl rfl) ((EB.tr (E52.tr (E59.tr (E152.tr (E159.tr E245))))).tag f0 (by decide)) rfl ?_
        refine x_iconst HE dX6_next_254 (by decide) ?_
        obtain ⟨v255, hw⟩ := hw
        refine x_iadd HE dX6_next_255 v255 ?_
        refine x_pI HE dX6_next_256 fd_X6_2 q293 (Or.inl rfl) (Or.inl rfl) (nf_int _) ((EB.tr (E52.tr (E59.tr (E152.tr (E159.tr E245))))).tag f0 (by decide)) (nro (by decide)) (Or.inl nf_X6_2) (fun m256 em256 E256 => ?_)
        have hw := hw m256 em256
        obtain ⟨v259, hw⟩ := hw
        refine x_newN HE dX6_next_259 xc18 (by decide) (nro (by decide)) q359 q360 q133 v259 (fun a259 m259 ea259 em259 E259 w259 => ?_)
        have hw := hw a259 m259 ea259 em259 w259
        have t259 := alloc_tag ea259 em259
        refine x_dup HE dX6_next_262 (fun o => o) ?_
        refine x_iload_n HE 2 dX6_next_263 rfl rfl ?_
        refine x_bipush HE dX6_next_264 (by decide) ?_
        refine x_ic_eq HE 275 dX6_next_266 (by decide) (fun c266 => ?_) (fun c266 => ?_)
        · have hw := hw.1 c266
          exact w_X6_next_275 HE hr f0 hw
        · have hw := hw.2 c266
          refine x_iload_n HE 2 dX6_next_269 rfl rfl ?_
          refine x_bipush HE dX6_next_270 (by decide) ?_
          refine x_ic_ne HE 279 dX6_next_272 (by decide) (fun c272 => ?_) (fun c272 => ?_)
          · have hw := hw.1 c272
            refine x_iconst HE dX6_next_279 (by decide) ?_
            exact w_X6_next_280 HE hr f0 hw
          · have hw := hw.2 c272
            exact w_X6_next_275 HE hr f0 hw
      · have hw := hw.2 c162
        refine x_iconst HE dX6_next_165 (by decide) ?_
        refine x_istore_n HE 2 (lo' := [some (rV x0), some (iV y26), some (iV 0)]) dX6_next_166 rfl (Nat.le_of_ble_eq_true rfl) rfl ?_
        exact wl_X6_next_167 HE hr f0 hw
    · have hw := hw.2 c62
      obtain ⟨v65, hw⟩ := hw
      refine x_newN HE dX6_next_65 xc34 (by decide) (nro (by decide)) q384 q385 q135 v65 (fun a65 m65 ea65 em65 E65 w65 => ?_)
      have hw := hw a65 m65 ea65 em65 w65
      have t65 := alloc_tag ea65 em65
      refine x_dup HE dX6_next_68 (fun o => o) ?_
      refine Wx.wf (fun wf69 => ?_)
      refine x_callI HE dX6_next_69 rfl (fun l => k_J4_init t65 l hw) (As := []) (rest := [rV a65]) rfl (tag_pos wf69 t65 (by decide)) q386 q135 q387 q388 rfl hy_J4_init.2 rfl rfl (Nat.le_of_ble_eq_true rfl) (Nat.le_of_ble_eq_true rfl) (Nat.le_of_ble_eq_true rfl) (kkV (fun m69 E69 hw => ?_))
      have hw := hw E69
      refine x_astore_n HE 2 (lo' := [some (rV x0), some (iV y26), some (rV a65)]) dX6_next_72 rfl (Nat.le_of_ble_eq_true rfl) rfl ?_
      exact wl_X6_next_73 HE hr f0 hw
  · have hw := hw.2 c35
    obtain ⟨v38, hw⟩ := hw
    refine x_newN HE dX6_next_38 xc18 (by decide) (nro (by decide)) q359 q360 q133 v38 (fun a38 m38 ea38 em38 E38 w38 => ?_)
    have hw := hw a38 m38 ea38 em38 w38
    have t38 := alloc_tag ea38 em38
    refine x_dup HE dX6_next_41 (fun o => o) ?_
    refine x_iconst HE dX6_next_42 (by decide) ?_
    refine x_iload_n HE 1 dX6_next_43 rfl rfl ?_
    refine x_iconst HE dX6_next_44 (by decide) ?_
    refine x_ldcS (k := 0) HE dX6_next_45 (List.mem_of_getElem? (i := 0) rfl) (fun hp45 => ?_)
    refine Wx.wf (fun wf47 => ?_)
    refine x_callI HE dX6_next_47 rfl (fun l => k_X8_init t38 l hw) (As := [iV 1, iV y26, iV 0, rV (hF m38 0 1)]) (rest := [rV a38]) rfl (tag_pos wf47 t38 (by decide)) q362 q133 q363 q364 rfl hy_X8_init.2 rfl rfl (Nat.le_of_ble_eq_true rfl) (Nat.le_of_ble_eq_true rfl) (Nat.le_of_ble_eq_true rfl) (kkV (fun m47 E47 hw => ?_))
    have hw := hw E47
    exact x_aret HE hr (Or.inl ⟨_, rfl⟩) dX6_next_50 hw
def g_X6_next_L0 (x0 : Int) (Q : Int → Hp → Prop) (K0 : Hp → Prop) (h : Hp) : Prop :=
  g_X6_look x0 (fun r1 m1 => Ext h m1 → (((r1 ≠ 32) → (g_X6_next_b22 x0 Q m1)) ∧ ((r1 = 32) → ((i32 ((hF m1 x0 2) + 1)) ∧ (∀ m16 : Hp, m16 = setF m1 x0 2 ((hF m1 x0 2) + 1) → (K0 m16)))))) h
theorem w_X6_next_0 {G : GT} {X : ET} {h0 : Hp} {x0 : Int} (HE : XE G X cX6_next 3 RX6 6 171 h0) (hr : XR X (some (.object "NextAtBar$Token"))) (f0 : hT h0 x0 = 19) {Q : Int → Hp → Prop} {K0 : Hp → Prop} (hK0 : ∀ (h : Hp), K0  h → Wx G X h0 (QR Q) h 0 [some (rV x0), none, none] []) {h : Hp} (hw : g_X6_next_L0 x0 Q K0  h) : Wx G X h0 (QR Q) h 0 [some (rV x0), none, none] [] := by
  refine Wx.start (fun EB => ?_)
  unfold g_X6_next_L0 at hw
  refine x_aload_n HE 0 dX6_next_0 rfl rfl ?_
  refine x_callV HE dX6_next_1 rfl (fun l => k_X6_look (EB.tag f0 (by decide)) l hw) (As := []) (rest := []) rfl xc19 (EB.tag f0 (by decide)) (lw_V q355 q357 qs1 q131 q358) hy_X6_look rfl rfl (Nat.le_of_ble_eq_true rfl) (Nat.le_of_ble_eq_true rfl) (Nat.le_of_ble_eq_true rfl) (kkI (fun r1 m1 E1 hw => ?_))
  have hw := hw E1
  refine x_bipush HE dX6_next_4 (by decide) ?_
  refine x_ic_ne HE 22 dX6_next_6 (by decide) (fun c6 => ?_) (fun c6 => ?_)
  · have hw := hw.1 c6
    exact w_X6_next_22 HE hr f0 hw
  · have hw := hw.2 c6
    refine x_aload_n HE 0 dX6_next_9 rfl rfl ?_
    refine x_dup HE dX6_next_10 (fun o => o) ?_
    refine x_gI HE dX6_next_11 fd_X6_2 q293 (Or.inl rfl) ((EB.tr E1).tag f0 (by decide)) rfl ?_
    refine x_iconst HE dX6_next_14 (by decide) ?_
    obtain ⟨v15, hw⟩ := hw
    refine x_iadd HE dX6_next_15 v15 ?_
    refine x_pI HE dX6_next_16 fd_X6_2 q293 (Or.inl rfl) (Or.inl rfl) (nf_int _) ((EB.tr E1).tag f0 (by decide)) (nro (by decide)) (Or.inl nf_X6_2) (fun m16 em16 E16 => ?_)
    have hw := hw m16 em16
    refine x_goto HE 0 dX6_next_19 (by decide) ?_
    exact hK0 _ hw
theorem wl_X6_next_0 {G : GT} {X : ET} {h0 : Hp} {x0 : Int} (HE : XE G X cX6_next 3 RX6 6 171 h0) (hr : XR X (some (.object "NextAtBar$Token"))) (f0 : hT h0 x0 = 19) {Q : Int → Hp → Prop} {h : Hp} (hw : Lp0 (g_X6_next_L0 x0 Q)  h) : Wx G X h0 (QR Q) h 0 [some (rV x0), none, none] [] := by
  obtain ⟨n, hw⟩ := hw
  induction n generalizing  h with
  | zero => exact hw.elim
  | succ n ih => exact w_X6_next_0 HE hr f0 (fun _ hk => ih hk) hw
def g_X6_next (x0 : Int) (Q : Int → Hp → Prop) (h : Hp) : Prop := Lp0 (g_X6_next_L0 x0 Q)  h
theorem k_X6_next {G : GT} {x0 : Int} {Q : Int → Hp → Prop} {h : Hp} (f0 : hT h x0 = 19) (l : Launch) (hw : g_X6_next x0 Q h) : XM G l yX6_next cX6_next 3 (some (.object "NextAtBar$Token")) 6 171 [rV x0] (QR Q) h :=
  XM.of (by decide) (Nat.le_of_ble_eq_true rfl) (fun X HE hr hn => wl_X6_next_0 HE hr f0 hw)
def g_X5_init (x0 x1 : Int) (Q : Hp → Prop) (h : Hp) : Prop :=
  (capOK h 7) ∧ (∀ (a5 : Int) (m5 : Hp), a5 = hN h → m5 = alloc h 12 0 7 → WFa h → (g_X7_init a5 (fun m9 => Ext m5 m9 → ((hF m9 x0 1 = 0) ∧ (∀ m12 : Hp, m12 = setF m9 x0 1 a5 → ((hF m12 x0 0 = 0) ∧ (∀ m17 : Hp, m17 = setF m12 x0 0 x1 → ((hT m17 x1 = 19) ∧ (g_X6_next x1 (fun r22 m22 => Ext m17 m22 → (∀ m25 : Hp, m25 = setF m22 x0 2 r22 → (Q m25))) m17))))))) m5))
theorem w_X5_init_0 {G : GT} {X : ET} {h0 : Hp} {x0 x1 : Int} (HE : XE G X cX5_init 2 RX5 7 193 h0) (hr : XR X none) (hn : XN X "<init>") (f0 : hT h0 x0 = 20) {Q : Hp → Prop} {h : Hp} (hw : g_X5_init x0 x1 Q h) : Wx G X h0 (QV Q) h 0 [some (rV x0), some (rV x1)] [] := by
  refine Wx.start (fun EB => ?_)
  unfold g_X5_init at hw
  refine x_aload_n HE 0 dX5_init_0 rfl rfl ?_
  refine Wx.wf (fun wf1 => ?_)
  refine x_objInit HE dX5_init_1 rfl q304 q170 q171 (tag_pos wf1 (EB.tag f0 (by decide)) (by decide)) (Nat.le_of_ble_eq_true rfl) (Nat.le_of_ble_eq_true rfl) (Nat.le_of_ble_eq_true rfl) ?_
  refine x_aload_n HE 0 dX5_init_4 rfl rfl ?_
  obtain ⟨v5, hw⟩ := hw
  refine x_newN HE dX5_init_5 xc12 (by decide) (nro (by decide)) q305 q306 q132 v5 (fun a5 m5 ea5 em5 E5 w5 => ?_)
  have hw := hw a5 m5 ea5 em5 w5
  have t5 := alloc_tag ea5 em5
  refine x_dup HE dX5_init_8 (fun o => o) ?_
  refine Wx.wf (fun wf9 => ?_)
  refine x_callIN HE dX5_init_9 rfl (fun l => k_X7_init t5 l hw) (As := []) (rest := [rV a5, rV x0]) rfl (tag_pos wf9 t5 (by decide)) (List.mem_of_getElem? (i := 0) rfl) q132 q308 q309 rfl hy_X7_init.2 rfl rfl (Nat.le_of_ble_eq_true rfl) (Nat.le_of_ble_eq_true rfl) (Nat.le_of_ble_eq_true rfl) (kkV (fun m9 E9 hw => ?_))
  have hw := hw E9
  obtain ⟨z12, hw⟩ := hw
  refine x_pR HE dX5_init_12 fd_X5_1 q574 (Or.inl rfl) (Or.inr ⟨rfl, hn, rfl⟩) (nf_obj _ _) ((EB.tr (E5.tr E9)).tag f0 (by decide)) (nro (by decide)) (Or.inr z12) (fun m12 em12 E12 => ?_)
  have hw := hw m12 em12
  refine x_aload_n HE 0 dX5_init_15 rfl rfl ?_
  refine x_aload_n HE 1 dX5_init_16 rfl rfl ?_
  obtain ⟨z17, hw⟩ := hw
  refine x_pR HE dX5_init_17 fd_X5_0 q573 (Or.inl rfl) (Or.inr ⟨rfl, hn, rfl⟩) (nf_obj _ _) ((EB.tr (E5.tr (E9.tr E12))).tag f0 (by decide)) (nro (by decide)) (Or.inr z17) (fun m17 em17 E17 => ?_)
  have hw := hw m17 em17
  refine x_aload_n HE 0 dX5_init_20 rfl rfl ?_
  refine x_aload_n HE 1 dX5_init_21 rfl rfl ?_
  obtain ⟨u22_0, hw⟩ := hw
  refine x_callV HE dX5_init_22 rfl (fun l => k_X6_next u22_0 l hw) (As := []) (rest := [rV x0]) rfl xc19 u22_0 (lw_V q351 q352 q353 q131 q354) hy_X6_next rfl rfl (Nat.le_of_ble_eq_true rfl) (Nat.le_of_ble_eq_true rfl) (Nat.le_of_ble_eq_true rfl) (kkR (fun r22 m22 E22 hw => ?_))
  have hw := hw E22
  refine x_pR HE dX5_init_25 fd_X5_2 q575 (Or.inl rfl) (Or.inl rfl) (nf_obj _ _) ((EB.tr (E5.tr (E9.tr (E12.tr (E17.tr E22))))).tag f0 (by decide)) (nro (by decide)) (Or.inl nf_X5_2) (fun m25 em25 E25 => ?_)
  have hw := hw m25 em25
  exact x_vret HE hr dX5_init_28 hw
theorem k_X5_init {G : GT} {x0 x1 : Int} {Q : Hp → Prop} {h : Hp} (f0 : hT h x0 = 20) (l : Launch) (hw : g_X5_init x0 x1 Q h) : XM G l yX5_init cX5_init 2 none 7 193 [rV x0, rV x1] (QV Q) h :=
  XM.of (by decide) (Nat.le_of_ble_eq_true rfl) (fun X HE hr hn => w_X5_init_0 HE hr hn f0 hw)
def g_X5_isOver_b12 (x0 : Int) (Q : Int → Hp → Prop) (s0 : Int) (h : Hp) : Prop :=
  (s0 = 0 ∨ s0 = 1) ∧ Q s0 h
theorem w_X5_isOver_12 {G : GT} {X : ET} {h0 : Hp} {x0 : Int} (HE : XE G X cX5_isOver 1 RX5 0 0 h0) (hr : XR X (some .boolean)) (f0 : hT h0 x0 = 20) {Q : Int → Hp → Prop} {s0 : Int} {h : Hp} (hw : g_X5_isOver_b12 x0 Q s0 h) : Wx G X h0 (QI Q) h 12 [some (rV x0)] [iV s0] := by
  refine Wx.start (fun EB => ?_)
  unfold g_X5_isOver_b12 at hw
  exact x_zret HE hr dX5_isOver_12 hw.1 hw.2
def g_X5_isOver (x0 : Int) (Q : Int → Hp → Prop) (h : Hp) : Prop :=
  (((hF h x0 3) ≤ 0) → (g_X5_isOver_b12 x0 Q 0 h)) ∧ ((0 < (hF h x0 3)) → (g_X5_isOver_b12 x0 Q 1 h))
theorem w_X5_isOver_0 {G : GT} {X : ET} {h0 : Hp} {x0 : Int} (HE : XE G X cX5_isOver 1 RX5 0 0 h0) (hr : XR X (some .boolean)) (f0 : hT h0 x0 = 20) {Q : Int → Hp → Prop} {h : Hp} (hw : g_X5_isOver x0 Q h) : Wx G X h0 (QI Q) h 0 [some (rV x0)] [] := by
  refine Wx.start (fun EB => ?_)
  unfold g_X5_isOver at hw
  refine x_aload_n HE 0 dX5_isOver_0 rfl rfl ?_
  refine x_gI HE dX5_isOver_1 fd_X5_3 q576 (Or.inl rfl) (EB.tag f0 (by decide)) rfl ?_
  refine x_if_le HE 11 dX5_isOver_4 (by decide) (fun c4 => ?_) (fun c4 => ?_)
  · have hw := hw.1 c4
    refine x_iconst HE dX5_isOver_11 (by decide) ?_
    exact w_X5_isOver_12 HE hr f0 hw
  · have hw := hw.2 c4
    refine x_iconst HE dX5_isOver_7 (by decide) ?_
    refine x_goto HE 12 dX5_isOver_8 (by decide) ?_
    exact w_X5_isOver_12 HE hr f0 hw
theorem k_X5_isOver {G : GT} {x0 : Int} {Q : Int → Hp → Prop} {h : Hp} (f0 : hT h x0 = 20) (l : Launch) (hw : g_X5_isOver x0 Q h) : XM G l yX5_isOver cX5_isOver 1 (some .boolean) 0 0 [rV x0] (QI Q) h :=
  XM.of (by decide) (Nat.le_of_ble_eq_true rfl) (fun X HE hr hn => w_X5_isOver_0 HE hr f0 hw)
def g_X5_wrong (x0 x1 : Int) (Q : Hp → Prop) (h : Hp) : Prop :=
  g_X5_isOver x0 (fun r1 m1 => Ext h m1 → (((r1 = 0) → (∀ m10 : Hp, m10 = setF m1 x0 3 x1 → ((hT m10 (hF m10 x0 2) = 18) ∧ (∀ m21 : Hp, m21 = setF m10 x0 4 (hF m10 (hF m10 x0 2) 1) → (Q m21))))) ∧ ((r1 ≠ 0) → (Q m1)))) h
theorem w_X5_wrong_0 {G : GT} {X : ET} {h0 : Hp} {x0 x1 : Int} (HE : XE G X cX5_wrong 2 RX5 1 20 h0) (hr : XR X none) (f0 : hT h0 x0 = 20) {Q : Hp → Prop} {h : Hp} (hw : g_X5_wrong x0 x1 Q h) : Wx G X h0 (QV Q) h 0 [some (rV x0), some (iV x1)] [] := by
  refine Wx.start (fun EB => ?_)
  unfold g_X5_wrong at hw
  refine x_aload_n HE 0 dX5_wrong_0 rfl rfl ?_
  refine x_callV HE dX5_wrong_1 rfl (fun l => k_X5_isOver (EB.tag f0 (by decide)) l hw) (As := []) (rest := []) rfl xc20 (EB.tag f0 (by decide)) (lw_V q675 q677 qs5 q130 q678) hy_X5_isOver rfl rfl (Nat.le_of_ble_eq_true rfl) (Nat.le_of_ble_eq_true rfl) (Nat.le_of_ble_eq_true rfl) (kkI (fun r1 m1 E1 hw => ?_))
  have hw := hw E1
  refine x_if_eq HE 8 dX5_wrong_4 (by decide) (fun c4 => ?_) (fun c4 => ?_)
  · have hw := hw.1 c4
    refine x_aload_n HE 0 dX5_wrong_8 rfl rfl ?_
    refine x_iload_n HE 1 dX5_wrong_9 rfl rfl ?_
    refine x_pI HE dX5_wrong_10 fd_X5_3 q576 (Or.inl rfl) (Or.inl rfl) (nf_int _) ((EB.tr E1).tag f0 (by decide)) (nro (by decide)) (Or.inl nf_X5_3) (fun m10 em10 E10 => ?_)
    have hw := hw m10 em10
    refine x_aload_n HE 0 dX5_wrong_13 rfl rfl ?_
    refine x_aload_n HE 0 dX5_wrong_14 rfl rfl ?_
    refine x_gR HE dX5_wrong_15 fd_X5_2 q575 (Or.inl rfl) ((EB.tr (E1.tr E10)).tag f0 (by decide)) rfl ?_
    obtain ⟨v18, hw⟩ := hw
    refine x_gI HE dX5_wrong_18 fd_X8_1 q369 (Or.inl rfl) v18 rfl ?_
    refine x_pI HE dX5_wrong_21 fd_X5_4 q578 (Or.inl rfl) (Or.inl rfl) (nf_int _) ((EB.tr (E1.tr E10)).tag f0 (by decide)) (nro (by decide)) (Or.inl nf_X5_4) (fun m21 em21 E21 => ?_)
    have hw := hw m21 em21
    exact x_vret HE hr dX5_wrong_24 hw
  · have hw := hw.2 c4
    exact x_vret HE hr dX5_wrong_7 hw
theorem k_X5_wrong {G : GT} {x0 x1 : Int} {Q : Hp → Prop} {h : Hp} (f0 : hT h x0 = 20) (l : Launch) (hw : g_X5_wrong x0 x1 Q h) : XM G l yX5_wrong cX5_wrong 2 none 1 20 [rV x0, iV x1] (QV Q) h :=
  XM.of (by decide) (Nat.le_of_ble_eq_true rfl) (fun X HE hr hn => w_X5_wrong_0 HE hr f0 hw)
def g_X5_on_b29 (x0 : Int) (Q : Hp → Prop) (h : Hp) : Prop :=
  Q h
theorem w_X5_on_29 {G : GT} {X : ET} {h0 : Hp} {x0 : Int} (HE : XE G X cX5_on 1 RX5 7 193 h0) (hr : XR X none) (f0 : hT h0 x0 = 20) {Q : Hp → Prop} {h : Hp} (hw : g_X5_on_b29 x0 Q  h) : Wx G X h0 (QV Q) h 29 [some (rV x0)] [] := by
  refine Wx.start (fun EB => ?_)
  unfold g_X5_on_b29 at hw
  exact x_vret HE hr dX5_on_29 hw
def g_X5_on (x0 : Int) (Q : Hp → Prop) (h : Hp) : Prop :=
  g_X5_isOver x0 (fun r1 m1 => Ext h m1 → (((r1 ≠ 0) → (g_X5_on_b29 x0 Q m1)) ∧ ((r1 = 0) → ((hT m1 (hF m1 x0 2) = 18) ∧ ((((hF m1 (hF m1 x0 2) 0) = 1) → (g_X5_on_b29 x0 Q m1)) ∧ (((hF m1 (hF m1 x0 2) 0) ≠ 1) → ((hT m1 (hF m1 x0 0) = 19) ∧ (g_X6_next (hF m1 x0 0) (fun r23 m23 => Ext m1 m23 → (∀ m26 : Hp, m26 = setF m23 x0 2 r23 → (g_X5_on_b29 x0 Q m26))) m1)))))))) h
theorem w_X5_on_0 {G : GT} {X : ET} {h0 : Hp} {x0 : Int} (HE : XE G X cX5_on 1 RX5 7 193 h0) (hr : XR X none) (f0 : hT h0 x0 = 20) {Q : Hp → Prop} {h : Hp} (hw : g_X5_on x0 Q h) : Wx G X h0 (QV Q) h 0 [some (rV x0)] [] := by
  refine Wx.start (fun EB => ?_)
  unfold g_X5_on at hw
  refine x_aload_n HE 0 dX5_on_0 rfl rfl ?_
  refine x_callV HE dX5_on_1 rfl (fun l => k_X5_isOver (EB.tag f0 (by decide)) l hw) (As := []) (rest := []) rfl xc20 (EB.tag f0 (by decide)) (lw_V q675 q677 qs5 q130 q678) hy_X5_isOver rfl rfl (Nat.le_of_ble_eq_true rfl) (Nat.le_of_ble_eq_true rfl) (Nat.le_of_ble_eq_true rfl) (kkI (fun r1 m1 E1 hw => ?_))
  have hw := hw E1
  refine x_if_ne HE 29 dX5_on_4 (by decide) (fun c4 => ?_) (fun c4 => ?_)
  · have hw := hw.1 c4
    exact w_X5_on_29 HE hr f0 hw
  · have hw := hw.2 c4
    refine x_aload_n HE 0 dX5_on_7 rfl rfl ?_
    refine x_gR HE dX5_on_8 fd_X5_2 q575 (Or.inl rfl) ((EB.tr E1).tag f0 (by decide)) rfl ?_
    obtain ⟨v11, hw⟩ := hw
    refine x_gI HE dX5_on_11 fd_X8_0 q367 (Or.inl rfl) v11 rfl ?_
    refine x_iconst HE dX5_on_14 (by decide) ?_
    refine x_ic_eq HE 29 dX5_on_15 (by decide) (fun c15 => ?_) (fun c15 => ?_)
    · have hw := hw.1 c15
      exact w_X5_on_29 HE hr f0 hw
    · have hw := hw.2 c15
      refine x_aload_n HE 0 dX5_on_18 rfl rfl ?_
      refine x_aload_n HE 0 dX5_on_19 rfl rfl ?_
      refine x_gR HE dX5_on_20 fd_X5_0 q573 (Or.inl rfl) ((EB.tr E1).tag f0 (by decide)) rfl ?_
      obtain ⟨u23_0, hw⟩ := hw
      refine x_callV HE dX5_on_23 rfl (fun l => k_X6_next u23_0 l hw) (As := []) (rest := [rV x0]) rfl xc19 u23_0 (lw_V q351 q352 q353 q131 q354) hy_X6_next rfl rfl (Nat.le_of_ble_eq_true rfl) (Nat.le_of_ble_eq_true rfl) (Nat.le_of_ble_eq_true rfl) (kkR (fun r23 m23 E23 hw => ?_))
      have hw := hw E23
      refine x_pR HE dX5_on_26 fd_X5_2 q575 (Or.inl rfl) (Or.inl rfl) (nf_obj _ _) ((EB.tr (E1.tr E23)).tag f0 (by decide)) (nro (by decide)) (Or.inl nf_X5_2) (fun m26 em26 E26 => ?_)
      have hw := hw m26 em26
      exact w_X5_on_29 HE hr f0 hw
theorem k_X5_on {G : GT} {x0 : Int} {Q : Hp → Prop} {h : Hp} (f0 : hT h x0 = 20) (l : Launch) (hw : g_X5_on x0 Q h) : XM G l yX5_on cX5_on 1 none 7 193 [rV x0] (QV Q) h :=
  XM.of (by decide) (Nat.le_of_ble_eq_true rfl) (fun X HE hr hn => w_X5_on_0 HE hr f0 hw)
def g_X8_is_b24 (x0 x1 : Int) (Q : Int → Hp → Prop) (s0 : Int) (h : Hp) : Prop :=
  (s0 = 0 ∨ s0 = 1) ∧ Q s0 h
theorem w_X8_is_24 {G : GT} {X : ET} {h0 : Hp} {x0 x1 : Int} (HE : XE G X cX8_is 2 RX8 2 44 h0) (hr : XR X (some .boolean)) (f0 : hT h0 x0 = 18) {Q : Int → Hp → Prop} {s0 : Int} {h : Hp} (hw : g_X8_is_b24 x0 x1 Q s0 h) : Wx G X h0 (QI Q) h 24 [some (rV x0), some (rV x1)] [iV s0] := by
  refine Wx.start (fun EB => ?_)
  unfold g_X8_is_b24 at hw
  exact x_zret HE hr dX8_is_24 hw.1 hw.2
def g_X8_is_b23 (x0 x1 : Int) (Q : Int → Hp → Prop) (h : Hp) : Prop :=
  g_X8_is_b24 x0 x1 Q 0 h
theorem w_X8_is_23 {G : GT} {X : ET} {h0 : Hp} {x0 x1 : Int} (HE : XE G X cX8_is 2 RX8 2 44 h0) (hr : XR X (some .boolean)) (f0 : hT h0 x0 = 18) {Q : Int → Hp → Prop} {h : Hp} (hw : g_X8_is_b23 x0 x1 Q  h) : Wx G X h0 (QI Q) h 23 [some (rV x0), some (rV x1)] [] := by
  refine Wx.start (fun EB => ?_)
  unfold g_X8_is_b23 at hw
  refine x_iconst HE dX8_is_23 (by decide) ?_
  exact w_X8_is_24 HE hr f0 hw
def g_X8_is (x0 x1 : Int) (Q : Int → Hp → Prop) (h : Hp) : Prop :=
  (((hF h x0 0) ≠ 2) → (g_X8_is_b23 x0 x1 Q h)) ∧ (((hF h x0 0) = 2) → ((Strg h (hF h x0 3)) ∧ (g_J5_equals (hF h x0 3) x1 (fun r13 m13 => Ext h m13 → (((r13 = 0) → (g_X8_is_b23 x0 x1 Q m13)) ∧ ((r13 ≠ 0) → (g_X8_is_b24 x0 x1 Q 1 m13)))) h)))
theorem w_X8_is_0 {G : GT} {X : ET} {h0 : Hp} {x0 x1 : Int} (HE : XE G X cX8_is 2 RX8 2 44 h0) (hr : XR X (some .boolean)) (f0 : hT h0 x0 = 18) {Q : Int → Hp → Prop} {h : Hp} (hw : g_X8_is x0 x1 Q h) : Wx G X h0 (QI Q) h 0 [some (rV x0), some (rV x1)] [] := by
  refine Wx.start (fun EB => ?_)
  unfold g_X8_is at hw
  refine x_aload_n HE 0 dX8_is_0 rfl rfl ?_
  refine x_gI HE dX8_is_1 fd_X8_0 q366 (Or.inl rfl) (EB.tag f0 (by decide)) rfl ?_
  refine x_iconst HE dX8_is_4 (by decide) ?_
  refine x_ic_ne HE 23 dX8_is_5 (by decide) (fun c5 => ?_) (fun c5 => ?_)
  · have hw := hw.1 c5
    exact w_X8_is_23 HE hr f0 hw
  · have hw := hw.2 c5
    refine x_aload_n HE 0 dX8_is_8 rfl rfl ?_
    refine x_gR HE dX8_is_9 fd_X8_3 q372 (Or.inl rfl) (EB.tag f0 (by decide)) rfl ?_
    refine x_aload_n HE 1 dX8_is_12 rfl rfl ?_
    obtain ⟨u13_0, hw⟩ := hw
    refine x_callV (t := hT h (hF h x0 3)) HE dX8_is_13 rfl (fun l => k_J5_equals u13_0 l hw) (As := [rV x1]) (rest := []) rfl (Strg.xc u13_0) rfl (lw_V q696 q655 q656 q136 q657) hy_J5_equals rfl rfl (Nat.le_of_ble_eq_true rfl) (Nat.le_of_ble_eq_true rfl) (Nat.le_of_ble_eq_true rfl) (kkI (fun r13 m13 E13 hw => ?_))
    have hw := hw E13
    refine x_if_eq HE 23 dX8_is_16 (by decide) (fun c16 => ?_) (fun c16 => ?_)
    · have hw := hw.1 c16
      exact w_X8_is_23 HE hr f0 hw
    · have hw := hw.2 c16
      refine x_iconst HE dX8_is_19 (by decide) ?_
      refine x_goto HE 24 dX8_is_20 (by decide) ?_
      exact w_X8_is_24 HE hr f0 hw
theorem k_X8_is {G : GT} {x0 x1 : Int} {Q : Int → Hp → Prop} {h : Hp} (f0 : hT h x0 = 18) (l : Launch) (hw : g_X8_is x0 x1 Q h) : XM G l yX8_is cX8_is 2 (some .boolean) 2 44 [rV x0, rV x1] (QI Q) h :=
  XM.of (by decide) (Nat.le_of_ble_eq_true rfl) (fun X HE hr hn => w_X8_is_0 HE hr f0 hw)
def g_X5_needs_b16 (x0 x1 : Int) (Q : Hp → Prop) (h : Hp) : Prop :=
  g_X5_on x0 (fun m17 => Ext h m17 → (Q m17)) h
theorem w_X5_needs_16 {G : GT} {X : ET} {h0 : Hp} {x0 x1 : Int} (HE : XE G X cX5_needs 2 RX5 8 213 h0) (hr : XR X none) (f0 : hT h0 x0 = 20) {Q : Hp → Prop} {h : Hp} (hw : g_X5_needs_b16 x0 x1 Q  h) : Wx G X h0 (QV Q) h 16 [some (rV x0), some (rV x1)] [] := by
  refine Wx.start (fun EB => ?_)
  unfold g_X5_needs_b16 at hw
  refine x_aload_n HE 0 dX5_needs_16 rfl rfl ?_
  refine x_callV HE dX5_needs_17 rfl (fun l => k_X5_on (EB.tag f0 (by decide)) l hw) (As := []) (rest := []) rfl xc20 (EB.tag f0 (by decide)) (lw_V q679 q681 qs6 q130 q682) hy_X5_on rfl rfl (Nat.le_of_ble_eq_true rfl) (Nat.le_of_ble_eq_true rfl) (Nat.le_of_ble_eq_true rfl) (kkV (fun m17 E17 hw => ?_))
  have hw := hw E17
  exact x_vret HE hr dX5_needs_20 hw
def g_X5_needs (x0 x1 : Int) (Q : Hp → Prop) (h : Hp) : Prop :=
  (hT h (hF h x0 2) = 18) ∧ (g_X8_is (hF h x0 2) x1 (fun r5 m5 => Ext h m5 → (((r5 ≠ 0) → (g_X5_needs_b16 x0 x1 Q m5)) ∧ ((r5 = 0) → (g_X5_wrong x0 1 (fun m13 => Ext m5 m13 → (g_X5_needs_b16 x0 x1 Q m13)) m5)))) h)
theorem w_X5_needs_0 {G : GT} {X : ET} {h0 : Hp} {x0 x1 : Int} (HE : XE G X cX5_needs 2 RX5 8 213 h0) (hr : XR X none) (f0 : hT h0 x0 = 20) {Q : Hp → Prop} {h : Hp} (hw : g_X5_needs x0 x1 Q h) : Wx G X h0 (QV Q) h 0 [some (rV x0), some (rV x1)] [] := by
  refine Wx.start (fun EB => ?_)
  unfold g_X5_needs at hw
  refine x_aload_n HE 0 dX5_needs_0 rfl rfl ?_
  refine x_gR HE dX5_needs_1 fd_X5_2 q575 (Or.inl rfl) (EB.tag f0 (by decide)) rfl ?_
  refine x_aload_n HE 1 dX5_needs_4 rfl rfl ?_
  obtain ⟨u5_0, hw⟩ := hw
  refine x_callV HE dX5_needs_5 rfl (fun l => k_X8_is u5_0 l hw) (As := [rV x1]) (rest := []) rfl xc18 u5_0 (lw_V q692 q693 q694 q133 q695) hy_X8_is rfl rfl (Nat.le_of_ble_eq_true rfl) (Nat.le_of_ble_eq_true rfl) (Nat.le_of_ble_eq_true rfl) (kkI (fun r5 m5 E5 hw => ?_))
  have hw := hw E5
  refine x_if_ne HE 16 dX5_needs_8 (by decide) (fun c8 => ?_) (fun c8 => ?_)
  · have hw := hw.1 c8
    exact w_X5_needs_16 HE hr f0 hw
  · have hw := hw.2 c8
    refine x_aload_n HE 0 dX5_needs_11 rfl rfl ?_
    refine x_iconst HE dX5_needs_12 (by decide) ?_
    refine x_callV HE dX5_needs_13 rfl (fun l => k_X5_wrong ((EB.tr E5).tag f0 (by decide)) l hw) (As := [iV 1]) (rest := []) rfl xc20 ((EB.tr E5).tag f0 (by decide)) (lw_V q671 q673 qs4 q130 q674) hy_X5_wrong rfl rfl (Nat.le_of_ble_eq_true rfl) (Nat.le_of_ble_eq_true rfl) (Nat.le_of_ble_eq_true rfl) (kkV (fun m13 E13 hw => ?_))
    have hw := hw E13
    exact w_X5_needs_16 HE hr f0 hw
theorem k_X5_needs {G : GT} {x0 x1 : Int} {Q : Hp → Prop} {h : Hp} (f0 : hT h x0 = 20) (l : Launch) (hw : g_X5_needs x0 x1 Q h) : XM G l yX5_needs cX5_needs 2 none 8 213 [rV x0, rV x1] (QV Q) h :=
  XM.of (by decide) (Nat.le_of_ble_eq_true rfl) (fun X HE hr hn => w_X5_needs_0 HE hr f0 hw)
def g_X5_whole_b38 (x0 x1 x2 : Int) (Q : Int → Hp → Prop) (l3 : Int) (h : Hp) : Prop :=
  g_X5_on x0 (fun m39 => Ext h m39 → ((hT m39 l3 = 18) ∧ (Q (hF m39 l3 2) m39))) h
theorem w_X5_whole_38 {G : GT} {X : ET} {h0 : Hp} {x0 x1 x2 : Int} (HE : XE G X cX5_whole 4 RX5 8 213 h0) (hr : XR X (some .int)) (f0 : hT h0 x0 = 20) {Q : Int → Hp → Prop} {l3 : Int} {h : Hp} (hw : g_X5_whole_b38 x0 x1 x2 Q l3 h) : Wx G X h0 (QI Q) h 38 [some (rV x0), some (iV x1), some (iV x2), some (rV l3)] [] := by
  refine Wx.start (fun EB => ?_)
  unfold g_X5_whole_b38 at hw
  refine x_aload_n HE 0 dX5_whole_38 rfl rfl ?_
  refine x_callV HE dX5_whole_39 rfl (fun l => k_X5_on (EB.tag f0 (by decide)) l hw) (As := []) (rest := []) rfl xc20 (EB.tag f0 (by decide)) (lw_V q679 q681 qs6 q130 q682) hy_X5_on rfl rfl (Nat.le_of_ble_eq_true rfl) (Nat.le_of_ble_eq_true rfl) (Nat.le_of_ble_eq_true rfl) (kkV (fun m39 E39 hw => ?_))
  have hw := hw E39
  refine x_aload_n HE 3 dX5_whole_42 rfl rfl ?_
  obtain ⟨v43, hw⟩ := hw
  refine x_gI HE dX5_whole_43 fd_X8_2 q371 (Or.inl rfl) v43 rfl ?_
  exact x_iret HE hr dX5_whole_46 hw
def g_X5_whole (x0 x1 x2 : Int) (Q : Int → Hp → Prop) (h : Hp) : Prop :=
  ∀ y4 : Int, y4 = (hF h x0 2) → ((hT h y4 = 18) ∧ ((((hF h y4 0) = 3) → (g_X1_in (hF h y4 2) x1 x2 (fun r27 m27 => Ext h m27 → (((r27 ≠ 0) → (g_X5_whole_b38 x0 x1 x2 Q y4 m27)) ∧ ((r27 = 0) → (g_X5_wrong x0 4 (fun m35 => Ext m27 m35 → (g_X5_whole_b38 x0 x1 x2 Q y4 m35)) m27)))) h)) ∧ (((hF h y4 0) ≠ 3) → (g_X5_wrong x0 1 (fun m15 => Ext h m15 → (g_X5_whole_b38 x0 x1 x2 Q y4 m15)) h))))
theorem w_X5_whole_0 {G : GT} {X : ET} {h0 : Hp} {x0 x1 x2 : Int} (HE : XE G X cX5_whole 4 RX5 8 213 h0) (hr : XR X (some .int)) (f0 : hT h0 x0 = 20) {Q : Int → Hp → Prop} {h : Hp} (hw : g_X5_whole x0 x1 x2 Q h) : Wx G X h0 (QI Q) h 0 [some (rV x0), some (iV x1), some (iV x2), none] [] := by
  refine Wx.start (fun EB => ?_)
  unfold g_X5_whole at hw
  refine x_aload_n HE 0 dX5_whole_0 rfl rfl ?_
  refine x_gR HE dX5_whole_1 fd_X5_2 q575 (Or.inl rfl) (EB.tag f0 (by decide)) rfl ?_
  refine x_astore_nN HE 3 (fun y4 => [some (rV x0), some (iV x1), some (iV x2), some (rV y4)]) dX5_whole_4 rfl (Nat.le_of_ble_eq_true rfl) (fun _ => rfl) (fun y4 ey4 => ?_)
  have hw := hw y4 ey4
  refine x_aload_n HE 3 dX5_whole_5 rfl rfl ?_
  obtain ⟨v6, hw⟩ := hw
  refine x_gI HE dX5_whole_6 fd_X8_0 q367 (Or.inl rfl) v6 rfl ?_
  refine x_iconst HE dX5_whole_9 (by decide) ?_
  refine x_ic_eq HE 21 dX5_whole_10 (by decide) (fun c10 => ?_) (fun c10 => ?_)
  · have hw := hw.1 c10
    refine x_aload_n HE 3 dX5_whole_21 rfl rfl ?_
    refine x_gI HE dX5_whole_22 fd_X8_2 q371 (Or.inl rfl) v6 rfl ?_
    refine x_iload_n HE 1 dX5_whole_25 rfl rfl ?_
    refine x_iload_n HE 2 dX5_whole_26 rfl rfl ?_
    refine x_callSN HE dX5_whole_27 rfl (fun l => k_X1_in  l hw) (As := [iV (hF h y4 2), iV x1, iV x2]) (rest := []) rfl (List.mem_of_getElem? (i := 7) rfl) q123 q277 q278 hy_X1_in.2 rfl rfl (Nat.le_of_ble_eq_true rfl) (Nat.le_of_ble_eq_true rfl) (Nat.le_of_ble_eq_true rfl) (kkI (fun r27 m27 E27 hw => ?_))
    have hw := hw E27
    refine x_if_ne HE 38 dX5_whole_30 (by decide) (fun c30 => ?_) (fun c30 => ?_)
    · have hw := hw.1 c30
      exact w_X5_whole_38 HE hr f0 hw
    · have hw := hw.2 c30
      refine x_aload_n HE 0 dX5_whole_33 rfl rfl ?_
      refine x_iconst HE dX5_whole_34 (by decide) ?_
      refine x_callV HE dX5_whole_35 rfl (fun l => k_X5_wrong ((EB.tr E27).tag f0 (by decide)) l hw) (As := [iV 4]) (rest := []) rfl xc20 ((EB.tr E27).tag f0 (by decide)) (lw_V q671 q673 qs4 q130 q674) hy_X5_wrong rfl rfl (Nat.le_of_ble_eq_true rfl) (Nat.le_of_ble_eq_true rfl) (Nat.le_of_ble_eq_true rfl) (kkV (fun m35 E35 hw => ?_))
      have hw := hw E35
      exact w_X5_whole_38 HE hr f0 hw
  · have hw := hw.2 c10
    refine x_aload_n HE 0 dX5_whole_13 rfl rfl ?_
    refine x_iconst HE dX5_whole_14 (by decide) ?_
    refine x_callV HE dX5_whole_15 rfl (fun l => k_X5_wrong (EB.tag f0 (by decide)) l hw) (As := [iV 1]) (rest := []) rfl xc20 (EB.tag f0 (by decide)) (lw_V q671 q673 qs4 q130 q674) hy_X5_wrong rfl rfl (Nat.le_of_ble_eq_true rfl) (Nat.le_of_ble_eq_true rfl) (Nat.le_of_ble_eq_true rfl) (kkV (fun m15 E15 hw => ?_))
    have hw := hw E15
    refine x_goto HE 38 dX5_whole_18 (by decide) ?_
    exact w_X5_whole_38 HE hr f0 hw
theorem k_X5_whole {G : GT} {x0 x1 x2 : Int} {Q : Int → Hp → Prop} {h : Hp} (f0 : hT h x0 = 20) (l : Launch) (hw : g_X5_whole x0 x1 x2 Q h) : XM G l yX5_whole cX5_whole 4 (some .int) 8 213 [rV x0, iV x1, iV x2] (QI Q) h :=
  XM.of (by decide) (Nat.le_of_ble_eq_true rfl) (fun X HE hr hn => w_X5_whole_0 HE hr f0 hw)
def g_X5_part (x0 x1 x2 x3 : Int) (Q : Int → Hp → Prop) (h : Hp) : Prop :=
  g_X5_needs x0 x1 (fun m2 => Ext h m2 → (g_X5_whole x0 x2 x3 (fun r8 m8 => Ext m2 m8 → (Q r8 m8)) m2)) h
theorem w_X5_part_0 {G : GT} {X : ET} {h0 : Hp} {x0 x1 x2 x3 : Int} (HE : XE G X cX5_part 4 RX5 9 236 h0) (hr : XR X (some .int)) (f0 : hT h0 x0 = 20) {Q : Int → Hp → Prop} {h : Hp} (hw : g_X5_part x0 x1 x2 x3 Q h) : Wx G X h0 (QI Q) h 0 [some (rV x0), some (rV x1), some (iV x2), some (iV x3)] [] := by
  refine Wx.start (fun EB => ?_)
  unfold g_X5_part at hw
  refine x_aload_n HE 0 dX5_part_0 rfl rfl ?_
  refine x_aload_n HE 1 dX5_part_1 rfl rfl ?_
  refine x_callV HE dX5_part_2 rfl (fun l => k_X5_needs (EB.tag f0 (by decide)) l hw) (As := [rV x1]) (rest := []) rfl xc20 (EB.tag f0 (by decide)) (lw_V q688 q690 qs8 q130 q691) hy_X5_needs rfl rfl (Nat.le_of_ble_eq_true rfl) (Nat.le_of_ble_eq_true rfl) (Nat.le_of_ble_eq_true rfl) (kkV (fun m2 E2 hw => ?_))
  have hw := hw E2
  refine x_aload_n HE 0 dX5_part_5 rfl rfl ?_
  refine x_iload_n HE 2 dX5_part_6 rfl rfl ?_
  refine x_iload_n HE 3 dX5_part_7 rfl rfl ?_
  refine x_callV HE dX5_part_8 rfl (fun l => k_X5_whole ((EB.tr E2).tag f0 (by decide)) l hw) (As := [iV x2, iV x3]) (rest := []) rfl xc20 ((EB.tr E2).tag f0 (by decide)) (lw_V q697 q699 qs9 q130 q700) hy_X5_whole rfl rfl (Nat.le_of_ble_eq_true rfl) (Nat.le_of_ble_eq_true rfl) (Nat.le_of_ble_eq_true rfl) (kkI (fun r8 m8 E8 hw => ?_))
  have hw := hw E8
  exact x_iret HE hr dX5_part_11 hw
theorem k_X5_part {G : GT} {x0 x1 x2 x3 : Int} {Q : Int → Hp → Prop} {h : Hp} (f0 : hT h x0 = 20) (l : Launch) (hw : g_X5_part x0 x1 x2 x3 Q h) : XM G l yX5_part cX5_part 4 (some .int) 9 236 [rV x0, rV x1, iV x2, iV x3] (QI Q) h :=
  XM.of (by decide) (Nat.le_of_ble_eq_true rfl) (fun X HE hr hn => w_X5_part_0 HE hr f0 hw)
def g_X5_houseLine_b15 (x0 : Int) (Q : Hp → Prop) (h : Hp) : Prop :=
  g_X5_on x0 (fun m16 => Ext h m16 → (g_X5_part x0 (hF m16 0 3) 1 20 (fun r25 m25 => Ext m16 m25 → (g_X5_part x0 (hF m25 0 4) 1 600 (fun r36 m36 => Ext m25 m36 → (g_X5_isOver x0 (fun r41 m41 => Ext m36 m41 → (((r41 = 0) → ((Lay_X7 m41 (hF m41 x0 1)) ∧ (∀ m53 : Hp, m53 = setF m41 (hF m41 x0 1) 0 r25 → ((Lay_X7 m53 (hF m53 x0 1)) ∧ (∀ m61 : Hp, m61 = setF m53 (hF m53 x0 1) 1 r36 → (Q m61)))))) ∧ ((r41 ≠ 0) → (Q m41)))) m36)) m25)) m16)) h
theorem w_X5_houseLine_15 {G : GT} {X : ET} {h0 : Hp} {x0 : Int} (HE : XE G X cX5_houseLine 3 RX5 10 259 h0) (hr : XR X none) (f0 : hT h0 x0 = 20) {Q : Hp → Prop} {h : Hp} (hw : g_X5_houseLine_b15 x0 Q  h) : Wx G X h0 (QV Q) h 15 [some (rV x0), none, none] [] := by
  refine Wx.start (fun EB => ?_)
  unfold g_X5_houseLine_b15 at hw
  refine x_aload_n HE 0 dX5_houseLine_15 rfl rfl ?_
  refine x_callV HE dX5_houseLine_16 rfl (fun l => k_X5_on (EB.tag f0 (by decide)) l hw) (As := []) (rest := []) rfl xc20 (EB.tag f0 (by decide)) (lw_V q679 q681 qs6 q130 q682) hy_X5_on rfl rfl (Nat.le_of_ble_eq_true rfl) (Nat.le_of_ble_eq_true rfl) (Nat.le_of_ble_eq_true rfl) (kkV (fun m16 E16 hw => ?_))
  have hw := hw E16
  refine x_aload_n HE 0 dX5_houseLine_19 rfl rfl ?_
  refine x_ldcS (k := 2) HE dX5_houseLine_20 (List.mem_of_getElem? (i := 8) rfl) (fun hp20 => ?_)
  refine x_iconst HE dX5_houseLine_22 (by decide) ?_
  refine x_bipush HE dX5_houseLine_23 (by decide) ?_
  refine x_callV HE dX5_houseLine_25 rfl (fun l => k_X5_part ((EB.tr E16).tag f0 (by decide)) l hw) (As := [rV (hF m16 0 3), iV 1, iV 20]) (rest := []) rfl xc20 ((EB.tr E16).tag f0 (by decide)) (lw_V q684 q686 qs7 q130 q687) hy_X5_part rfl rfl (Nat.le_of_ble_eq_true rfl) (Nat.le_of_ble_eq_true rfl) (Nat.le_of_ble_eq_true rfl) (kkI (fun r25 m25 E25 hw => ?_))
  have hw := hw E25
  refine x_istore_n HE 1 (lo' := [some (rV x0), some (iV r25), none]) dX5_houseLine_28 rfl (Nat.le_of_ble_eq_true rfl) rfl ?_
  refine x_aload_n HE 0 dX5_houseLine_29 rfl rfl ?_
  refine x_ldcS (k := 3) HE dX5_houseLine_30 (List.mem_of_getElem? (i := 9) rfl) (fun hp30 => ?_)
  refine x_iconst HE dX5_houseLine_32 (by decide) ?_
  refine x_sipush HE dX5_houseLine_33 (by decide) ?_
  refine x_callV HE dX5_houseLine_36 rfl (fun l => k_X5_part ((EB.tr (E16.tr E25)).tag f0 (by decide)) l hw) (As := [rV (hF m25 0 4), iV 1, iV 600]) (rest := []) rfl xc20 ((EB.tr (E16.tr E25)).tag f0 (by decide)) (lw_V q684 q686 qs7 q130 q687) hy_X5_part rfl rfl (Nat.le_of_ble_eq_true rfl) (Nat.le_of_ble_eq_true rfl) (Nat.le_of_ble_eq_true rfl) (kkI (fun r36 m36 E36 hw => ?_))
  have hw := hw E36
  refine x_istore_n HE 2 (lo' := [some (rV x0), some (iV r25), some (iV r36)]) dX5_houseLine_39 rfl (Nat.le_of_ble_eq_true rfl) rfl ?_
  refine x_aload_n HE 0 dX5_houseLine_40 rfl rfl ?_
  refine x_callV HE dX5_houseLine_41 rfl (fun l => k_X5_isOver ((EB.tr (E16.tr (E25.tr E36))).tag f0 (by decide)) l hw) (As := []) (rest := []) rfl xc20 ((EB.tr (E16.tr (E25.tr E36))).tag f0 (by decide)) (lw_V q675 q677 qs5 q130 q678) hy_X5_isOver rfl rfl (Nat.le_of_ble_eq_true rfl) (Nat.le_of_ble_eq_true rfl) (Nat.le_of_ble_eq_true rfl) (kkI (fun r41 m41 E41 hw => ?_))
  have hw := hw E41
  refine x_if_eq HE 48 dX5_houseLine_44 (by decide) (fun c44 => ?_) (fun c44 => ?_)
  · have hw := hw.1 c44
    refine x_aload_n HE 0 dX5_houseLine_48 rfl rfl ?_
    refine x_gR HE dX5_houseLine_49 fd_X5_1 q574 (Or.inl rfl) ((EB.tr (E16.tr (E25.tr (E36.tr E41)))).tag f0 (by decide)) rfl ?_
    refine x_iload_n HE 1 dX5_houseLine_52 rfl rfl ?_
    obtain ⟨v53, hw⟩ := hw
    refine x_pI HE dX5_houseLine_53 fd_X7_0 q313 (Or.inl rfl) (Or.inl rfl) (nf_int _) (Lay_X7.tag v53) (nro (by decide)) (Or.inl nf_X7_0) (fun m53 em53 E53 => ?_)
    have hw := hw m53 em53
    refine x_aload_n HE 0 dX5_houseLine_56 rfl rfl ?_
    refine x_gR HE dX5_houseLine_57 fd_X5_1 q574 (Or.inl rfl) ((EB.tr (E16.tr (E25.tr (E36.tr (E41.tr E53))))).tag f0 (by decide)) rfl ?_
    refine x_iload_n HE 2 dX5_houseLine_60 rfl rfl ?_
    obtain ⟨v61, hw⟩ := hw
    refine x_pI HE dX5_houseLine_61 fd_X7_1 q316 (Or.inl rfl) (Or.inl rfl) (nf_int _) (Lay_X7.tag v61) (nro (by decide)) (Or.inl nf_X7_1) (fun m61 em61 E61 => ?_)
    have hw := hw m61 em61
    exact x_vret HE hr dX5_houseLine_64 hw
  · have hw := hw.2 c44
    exact x_vret HE hr dX5_houseLine_47 hw
def g_X5_houseLine (x0 : Int) (Q : Hp → Prop) (h : Hp) : Prop :=
  (Lay_X7 h (hF h x0 1)) ∧ ((((hF h (hF h x0 1) 0) ≤ 0) → (g_X5_houseLine_b15 x0 Q h)) ∧ ((0 < (hF h (hF h x0 1) 0)) → (g_X5_wrong x0 3 (fun m12 => Ext h m12 → (g_X5_houseLine_b15 x0 Q m12)) h)))
theorem w_X5_houseLine_0 {G : GT} {X : ET} {h0 : Hp} {x0 : Int} (HE : XE G X cX5_houseLine 3 RX5 10 259 h0) (hr : XR X none) (f0 : hT h0 x0 = 20) {Q : Hp → Prop} {h : Hp} (hw : g_X5_houseLine x0 Q h) : Wx G X h0 (QV Q) h 0 [some (rV x0), none, none] [] := by
  refine Wx.start (fun EB => ?_)
  unfold g_X5_houseLine at hw
  refine x_aload_n HE 0 dX5_houseLine_0 rfl rfl ?_
  refine x_gR HE dX5_houseLine_1 fd_X5_1 q574 (Or.inl rfl) (EB.tag f0 (by decide)) rfl ?_
  obtain ⟨v4, hw⟩ := hw
  refine x_gI HE dX5_houseLine_4 fd_X7_0 q313 (Or.inl rfl) (Lay_X7.tag v4) rfl ?_
  refine x_if_le HE 15 dX5_houseLine_7 (by decide) (fun c7 => ?_) (fun c7 => ?_)
  · have hw := hw.1 c7
    exact w_X5_houseLine_15 HE hr f0 hw
  · have hw := hw.2 c7
    refine x_aload_n HE 0 dX5_houseLine_10 rfl rfl ?_
    refine x_iconst HE dX5_houseLine_11 (by decide) ?_
    refine x_callV HE dX5_houseLine_12 rfl (fun l => k_X5_wrong (EB.tag f0 (by decide)) l hw) (As := [iV 3]) (rest := []) rfl xc20 (EB.tag f0 (by decide)) (lw_V q671 q673 qs4 q130 q674) hy_X5_wrong rfl rfl (Nat.le_of_ble_eq_true rfl) (Nat.le_of_ble_eq_true rfl) (Nat.le_of_ble_eq_true rfl) (kkV (fun m12 E12 hw => ?_))
    have hw := hw E12
    exact w_X5_houseLine_15 HE hr f0 hw
theorem k_X5_houseLine {G : GT} {x0 : Int} {Q : Hp → Prop} {h : Hp} (f0 : hT h x0 = 20) (l : Launch) (hw : g_X5_houseLine x0 Q h) : XM G l yX5_houseLine cX5_houseLine 3 none 10 259 [rV x0] (QV Q) h :=
  XM.of (by decide) (Nat.le_of_ble_eq_true rfl) (fun X HE hr hn => w_X5_houseLine_0 HE hr f0 hw)
def g_X5_begins_b26 (x0 x1 x2 : Int) (Q : Hp → Prop) (h : Hp) : Prop :=
  g_X5_on x0 (fun m27 => Ext h m27 → (Q m27)) h
theorem w_X5_begins_26 {G : GT} {X : ET} {h0 : Hp} {x0 x1 x2 : Int} (HE : XE G X cX5_begins 3 RX5 8 213 h0) (hr : XR X none) (f0 : hT h0 x0 = 20) {Q : Hp → Prop} {h : Hp} (hw : g_X5_begins_b26 x0 x1 x2 Q  h) : Wx G X h0 (QV Q) h 26 [some (rV x0), some (iV x1), some (iV x2)] [] := by
  refine Wx.start (fun EB => ?_)
  unfold g_X5_begins_b26 at hw
  refine x_aload_n HE 0 dX5_begins_26 rfl rfl ?_
  refine x_callV HE dX5_begins_27 rfl (fun l => k_X5_on (EB.tag f0 (by decide)) l hw) (As := []) (rest := []) rfl xc20 (EB.tag f0 (by decide)) (lw_V q679 q681 qs6 q130 q682) hy_X5_on rfl rfl (Nat.le_of_ble_eq_true rfl) (Nat.le_of_ble_eq_true rfl) (Nat.le_of_ble_eq_true rfl) (kkV (fun m27 E27 hw => ?_))
  have hw := hw E27
  exact x_vret HE hr dX5_begins_30 hw
def g_X5_begins_b10 (x0 x1 x2 : Int) (Q : Hp → Prop) (h : Hp) : Prop :=
  (Lay_X7 h (hF h x0 1)) ∧ ((((hF h (hF h x0 1) 0) ≠ 0) → (g_X5_begins_b26 x0 x1 x2 Q h)) ∧ (((hF h (hF h x0 1) 0) = 0) → (g_X5_wrong x0 6 (fun m23 => Ext h m23 → (g_X5_begins_b26 x0 x1 x2 Q m23)) h)))
theorem w_X5_begins_10 {G : GT} {X : ET} {h0 : Hp} {x0 x1 x2 : Int} (HE : XE G X cX5_begins 3 RX5 8 213 h0) (hr : XR X none) (f0 : hT h0 x0 = 20) {Q : Hp → Prop} {h : Hp} (hw : g_X5_begins_b10 x0 x1 x2 Q  h) : Wx G X h0 (QV Q) h 10 [some (rV x0), some (iV x1), some (iV x2)] [] := by
  refine Wx.start (fun EB => ?_)
  unfold g_X5_begins_b10 at hw
  refine x_aload_n HE 0 dX5_begins_10 rfl rfl ?_
  refine x_gR HE dX5_begins_11 fd_X5_1 q574 (Or.inl rfl) (EB.tag f0 (by decide)) rfl ?_
  obtain ⟨v14, hw⟩ := hw
  refine x_gI HE dX5_begins_14 fd_X7_0 q313 (Or.inl rfl) (Lay_X7.tag v14) rfl ?_
  refine x_if_ne HE 26 dX5_begins_17 (by decide) (fun c17 => ?_) (fun c17 => ?_)
  · have hw := hw.1 c17
    exact w_X5_begins_26 HE hr f0 hw
  · have hw := hw.2 c17
    refine x_aload_n HE 0 dX5_begins_20 rfl rfl ?_
    refine x_bipush HE dX5_begins_21 (by decide) ?_
    refine x_callV HE dX5_begins_23 rfl (fun l => k_X5_wrong (EB.tag f0 (by decide)) l hw) (As := [iV 6]) (rest := []) rfl xc20 (EB.tag f0 (by decide)) (lw_V q671 q673 qs4 q130 q674) hy_X5_wrong rfl rfl (Nat.le_of_ble_eq_true rfl) (Nat.le_of_ble_eq_true rfl) (Nat.le_of_ble_eq_true rfl) (kkV (fun m23 E23 hw => ?_))
    have hw := hw E23
    exact w_X5_begins_26 HE hr f0 hw
def g_X5_begins (x0 x1 x2 : Int) (Q : Hp → Prop) (h : Hp) : Prop :=
  ((x1 ≠ x2) → (g_X5_begins_b10 x0 x1 x2 Q h)) ∧ ((x1 = x2) → (g_X5_wrong x0 5 (fun m7 => Ext h m7 → (g_X5_begins_b10 x0 x1 x2 Q m7)) h))
theorem w_X5_begins_0 {G : GT} {X : ET} {h0 : Hp} {x0 x1 x2 : Int} (HE : XE G X cX5_begins 3 RX5 8 213 h0) (hr : XR X none) (f0 : hT h0 x0 = 20) {Q : Hp → Prop} {h : Hp} (hw : g_X5_begins x0 x1 x2 Q h) : Wx G X h0 (QV Q) h 0 [some (rV x0), some (iV x1), some (iV x2)] [] := by
  refine Wx.start (fun EB => ?_)
  unfold g_X5_begins at hw
  refine x_iload_n HE 1 dX5_begins_0 rfl rfl ?_
  refine x_iload_n HE 2 dX5_begins_1 rfl rfl ?_
  refine x_ic_ne HE 10 dX5_begins_2 (by decide) (fun c2 => ?_) (fun c2 => ?_)
  · have hw := hw.1 c2
    exact w_X5_begins_10 HE hr f0 hw
  · have hw := hw.2 c2
    refine x_aload_n HE 0 dX5_begins_5 rfl rfl ?_
    refine x_iconst HE dX5_begins_6 (by decide) ?_
    refine x_callV HE dX5_begins_7 rfl (fun l => k_X5_wrong (EB.tag f0 (by decide)) l hw) (As := [iV 5]) (rest := []) rfl xc20 (EB.tag f0 (by decide)) (lw_V q671 q673 qs4 q130 q674) hy_X5_wrong rfl rfl (Nat.le_of_ble_eq_true rfl) (Nat.le_of_ble_eq_true rfl) (Nat.le_of_ble_eq_true rfl) (kkV (fun m7 E7 hw => ?_))
    have hw := hw E7
    exact w_X5_begins_10 HE hr f0 hw
theorem k_X5_begins {G : GT} {x0 x1 x2 : Int} {Q : Hp → Prop} {h : Hp} (f0 : hT h x0 = 20) (l : Launch) (hw : g_X5_begins x0 x1 x2 Q h) : XM G l yX5_begins cX5_begins 3 none 8 213 [rV x0, iV x1, iV x2] (QV Q) h :=
  XM.of (by decide) (Nat.le_of_ble_eq_true rfl) (fun X HE hr hn => w_X5_begins_0 HE hr f0 hw)
def g_X8_isName_b200 (x0 : Int) (Q : Int → Hp → Prop) (h : Hp) : Prop :=
  Q 0 h
theorem w_X8_isName_200 {G : GT} {X : ET} {h0 : Hp} {x0 : Int} (HE : XE G X cX8_isName 3 RX8 4 90 h0) (hr : XR X (some .boolean)) (f0 : hT h0 x0 = 18) {Q : Int → Hp → Prop} {h : Hp} (hw : g_X8_isName_b200 x0 Q  h) : Wx G X h0 (QI Q) h 200 [some (rV x0), none, none] [] := by
  refine Wx.start (fun EB => ?_)
  unfold g_X8_isName_b200 at hw
  refine x_iconst HE dX8_isName_200 (by decide) ?_
  exact x_zret HE hr dX8_isName_201 (by decide) hw
def g_X8_isName_b161 (x0 : Int) (Q : Int → Hp → Prop) (l2 : Int) (h : Hp) : Prop :=
  ((l2 = 0) → (g_X8_isName_b200 x0 Q h)) ∧ ((l2 = 1) → (g_X8_isName_b200 x0 Q h)) ∧ ((l2 = 2) → (g_X8_isName_b200 x0 Q h)) ∧ ((l2 = 3) → (g_X8_isName_b200 x0 Q h)) ∧ ((l2 = 4) → (g_X8_isName_b200 x0 Q h)) ∧ ((l2 = 5) → (g_X8_isName_b200 x0 Q h)) ∧ ((l2 ≠ 0 ∧ l2 ≠ 1 ∧ l2 ≠ 2 ∧ l2 ≠ 3 ∧ l2 ≠ 4 ∧ l2 ≠ 5) → (Q 1 h))
theorem w_X8_isName_161 {G : GT} {X : ET} {h0 : Hp} {x0 : Int} (HE : XE G X cX8_isName 3 RX8 4 90 h0) (hr : XR X (some .boolean)) (f0 : hT h0 x0 = 18) {Q : Int → Hp → Prop} {l2 : Int} {h : Hp} (hw : g_X8_isName_b161 x0 Q l2 h) : Wx G X h0 (QI Q) h 161 [some (rV x0), none, some (iV l2)] [] := by
  refine Wx.start (fun EB => ?_)
  unfold g_X8_isName_b161 at hw
  refine x_iload_n HE 2 dX8_isName_161 rfl rfl ?_
  by_cases s162_0 : l2 = 0
  · have hw := hw.1 s162_0
    refine x_tabIn HE 200 dX8_isName_162 0 s162_0 (by decide) rfl (by decide) ?_
    refine Wx.mask [true, true, false] (lo2 := [some (rV x0), none, none]) rfl ?_
    exact w_X8_isName_200 HE hr f0 hw
  have hw := hw.2
  by_cases s162_1 : l2 = 1
  · have hw := hw.1 s162_1
    refine x_tabIn HE 200 dX8_isName_162 1 s162_1 (by decide) rfl (by decide) ?_
    refine Wx.mask [true, true, false] (lo2 := [some (rV x0), none, none]) rfl ?_
    exact w_X8_isName_200 HE hr f0 hw
  have hw := hw.2
  by_cases s162_2 : l2 = 2
  · have hw := hw.1 s162_2
    refine x_tabIn HE 200 dX8_isName_162 2 s162_2 (by decide) rfl (by decide) ?_
    refine Wx.mask [true, true, false] (lo2 := [some (rV x0), none, none]) rfl ?_
    exact w_X8_isName_200 HE hr f0 hw
  have hw := hw.2
  by_cases s162_3 : l2 = 3
  · have hw := hw.1 s162_3
    refine x_tabIn HE 200 dX8_isName_162 3 s162_3 (by decide) rfl (by decide) ?_
    refine Wx.mask [true, true, false] (lo2 := [some (rV x0), none, none]) rfl ?_
    exact w_X8_isName_200 HE hr f0 hw
  have hw := hw.2
  by_cases s162_4 : l2 = 4
  · have hw := hw.1 s162_4
    refine x_tabIn HE 200 dX8_isName_162 4 s162_4 (by decide) rfl (by decide) ?_
    refine Wx.mask [true, true, false] (lo2 := [some (rV x0), none, none]) rfl ?_
    exact w_X8_isName_200 HE hr f0 hw
  have hw := hw.2
  by_cases s162_5 : l2 = 5
  · have hw := hw.1 s162_5
    refine x_tabIn HE 200 dX8_isName_162 5 s162_5 (by decide) rfl (by decide) ?_
    refine Wx.mask [true, true, false] (lo2 := [some (rV x0), none, none]) rfl ?_
    exact w_X8_isName_200 HE hr f0 hw
  have hw := hw.2
  have hw := hw ⟨s162_0, s162_1, s162_2, s162_3, s162_4, s162_5⟩
  refine x_tabOut HE 202 dX8_isName_162 (tabE (tabS (b := 6) (tabS (b := 5) (tabS (b := 4) (tabS (b := 3) (tabS (b := 2) (tabS (b := 1) (Int.lt_or_le l2 0) (by decide) s162_0) (by decide) s162_1) (by decide) s162_2) (by decide) s162_3) (by decide) s162_4) (by decide) s162_5) (by decide)) (by decide) ?_
  refine x_iconst HE dX8_isName_202 (by decide) ?_
  exact x_zret HE hr dX8_isName_203 (by decide) hw
def g_X8_isName (x0 : Int) (Q : Int → Hp → Prop) (h : Hp) : Prop :=
  (((hF h x0 0) = 2) → (∀ y14 : Int, y14 = (hF h x0 3) → ((Strg h y14) ∧ (g_J5_hashCode y14 (fun r18 m18 => Ext h m18 → (((r18 = (-991716523)) → (g_J5_equals y14 (hF m18 0 7) (fun r125 m125 => Ext m18 m125 → (((r125 = 0) → (g_X8_isName_b161 x0 Q (-1) m125)) ∧ ((r125 ≠ 0) → (g_X8_isName_b161 x0 Q 3 m125)))) m18)) ∧ ((r18 = 3523048) → (g_J5_equals y14 (hF m18 0 9) (fun r153 m153 => Ext m18 m153 → (((r153 = 0) → (g_X8_isName_b161 x0 Q (-1) m153)) ∧ ((r153 ≠ 0) → (g_X8_isName_b161 x0 Q 5 m153)))) m18)) ∧ ((r18 = 95852696) → (g_J5_equals y14 (hF m18 0 5) (fun r97 m97 => Ext m18 m97 → (((r97 = 0) → (g_X8_isName_b161 x0 Q (-1) m97)) ∧ ((r97 ≠ 0) → (g_X8_isName_b161 x0 Q 1 m97)))) m18)) ∧ ((r18 = 99469088) → (g_J5_equals y14 (hF m18 0 2) (fun r83 m83 => Ext m18 m83 → (((r83 = 0) → (g_X8_isName_b161 x0 Q (-1) m83)) ∧ ((r83 ≠ 0) → (g_X8_isName_b161 x0 Q 0 m83)))) m18)) ∧ ((r18 = 109403690) → (g_J5_equals y14 (hF m18 0 8) (fun r139 m139 => Ext m18 m139 → (((r139 = 0) → (g_X8_isName_b161 x0 Q (-1) m139)) ∧ ((r139 ≠ 0) → (g_X8_isName_b161 x0 Q 4 m139)))) m18)) ∧ ((r18 = 109757152) → (g_J5_equals y14 (hF m18 0 6) (fun r111 m111 => Ext m18 m111 → (((r111 = 0) → (g_X8_isName_b161 x0 Q (-1) m111)) ∧ ((r111 ≠ 0) → (g_X8_isName_b161 x0 Q 2 m111)))) m18)) ∧ ((r18 ≠ (-991716523) ∧ r18 ≠ 3523048 ∧ r18 ≠ 95852696 ∧ r18 ≠ 99469088 ∧ r18 ≠ 109403690 ∧ r18 ≠ 109757152) → (g_X8_isName_b161 x0 Q (-1) m18)))) h)))) ∧ (((hF h x0 0) ≠ 2) → (Q 0 h))
theorem w_X8_isName_0 {G : GT} {X : ET} {h0 : Hp} {x0 : Int} (HE : XE G X cX8_isName 3 RX8 4 90 h0) (hr : XR X (some .boolean)) (f0 : hT h0 x0 = 18) {Q : Int → Hp → Prop} {h : Hp} (hw : g_X8_isName x0 Q h) : Wx G X h0 (QI Q) h 0 [some (rV x0), none, none] [] := by
  refine Wx.start (fun EB => ?_)
  unfold g_X8_isName at hw
  refine x_aload_n HE 0 dX8_isName_0 rfl rfl ?_
  refine x_gI HE dX8_isName_1 fd_X8_0 q366 (Or.inl rfl) (EB.tag f0 (by decide)) rfl ?_
  refine x_iconst HE dX8_isName_4 (by decide) ?_
  refine x_ic_eq HE 10 dX8_isName_5 (by decide) (fun c5 => ?_) (fun c5 => ?_)
  · have hw := hw.1 c5
    refine x_aload_n HE 0 dX8_isName_10 rfl rfl ?_
    refine x_gR HE dX8_isName_11 fd_X8_3 q372 (Or.inl rfl) (EB.tag f0 (by decide)) rfl ?_
    refine x_astore_nN HE 1 (fun y14 => [some (rV x0), some (rV y14), none]) dX8_isName_14 rfl (Nat.le_of_ble_eq_true rfl) (fun _ => rfl) (fun y14 ey14 => ?_)
    have hw := hw y14 ey14
    refine x_iconst HE dX8_isName_15 (by decide) ?_
    refine x_istore_n HE 2 (lo' := [some (rV x0), some (rV y14), some (iV (-1))]) dX8_isName_16 rfl (Nat.le_of_ble_eq_true rfl) rfl ?_
    refine x_aload_n HE 1 dX8_isName_17 rfl rfl ?_
    obtain ⟨u18_0, hw⟩ := hw
    refine x_callV (t := hT h y14) HE dX8_isName_18 rfl (fun l => k_J5_hashCode u18_0 l hw) (As := []) (rest := []) rfl (Strg.xc u18_0) rfl (lw_V q723 q601 q602 q136 q603) hy_J5_hashCode rfl rfl (Nat.le_of_ble_eq_true rfl) (Nat.le_of_ble_eq_true rfl) (Nat.le_of_ble_eq_true rfl) (kkI (fun r18 m18 E18 hw => ?_))
    have hw := hw E18
    by_cases s21_m991716523 : r18 = (-991716523)
    · have hw := hw.1 s21_m991716523
      refine x_lookup (off := 101) HE 122 dX8_isName_21 (by decide) ((congrArg (Op.lookupswitch.offset _ _) s21_m991716523).trans (by decide +kernel)) (by decide) ?_
      refine x_aload_n HE 1 dX8_isName_122 rfl rfl ?_
      refine x_ldcS (k := 6) HE dX8_isName_123 (List.mem_of_getElem? (i := 13) rfl) (fun hp123 => ?_)
      refine x_callV (t := hT m18 y14) HE dX8_isName_125 rfl (fun l => k_J5_equals (u18_0.ext E18) l hw) (As := [rV (hF m18 0 7)]) (rest := []) rfl (Strg.xc (u18_0.ext E18)) rfl (lw_V q696 q655 q656 q136 q657) hy_J5_equals rfl rfl (Nat.le_of_ble_eq_true rfl) (Nat.le_of_ble_eq_true rfl) (Nat.le_of_ble_eq_true rfl) (kkI (fun r125 m125 E125 hw => ?_))
      have hw := hw E125
      refine x_if_eq HE 161 dX8_isName_128 (by decide) (fun c128 => ?_) (fun c128 => ?_)
      · have hw := hw.1 c128
        refine Wx.mask [true, false, true] (lo2 := [some (rV x0), none, some (iV (-1))]) rfl ?_
        exact w_X8_isName_161 HE hr f0 hw
      · have hw := hw.2 c128
        refine x_iconst HE dX8_isName_131 (by decide) ?_
        refine x_istore_n HE 2 (lo' := [some (rV x0), some (rV y14), some (iV 3)]) dX8_isName_132 rfl (Nat.le_of_ble_eq_true rfl) rfl ?_
        refine x_goto HE 161 dX8_isName_133 (by decide) ?_
        refine Wx.mask [true, false, true] (lo2 := [some (rV x0), none, some (iV 3)]) rfl ?_
        exact w_X8_isName_161 HE hr f0 hw
    have hw := hw.2
    by_cases s21_3523048 : r18 = 3523048
    · have hw := hw.1 s21_3523048
      refine x_lookup (off := 129) HE 150 dX8_isName_21 (by decide) ((congrArg (Op.lookupswitch.offset _ _) s21_3523048).trans (by decide +kernel)) (by decide) ?_
      refine x_aload_n HE 1 dX8_isName_150 rfl rfl ?_
      refine x_ldcS (k := 8) HE dX8_isName_151 (List.mem_of_getElem? (i := 15) rfl) (fun hp151 => ?_)
      refine x_callV (t := hT m18 y14) HE dX8_isName_153 rfl (fun l => k_J5_equals (u18_0.ext E18) l hw) (As := [rV (hF m18 0 9)]) (rest := []) rfl (Strg.xc (u18_0.ext E18)) rfl (lw_V q696 q655 q656 q136 q657) hy_J5_equals rfl rfl (Nat.le_of_ble_eq_true rfl) (Nat.le_of_ble_eq_true rfl) (Nat.le_of_ble_eq_true rfl) (kkI (fun r153 m153 E153 hw => ?_))
      have hw := hw E153
      refine x_if_eq HE 161 dX8_isName_156 (by decide) (fun c156 => ?_) (fun c156 => ?_)
      · have hw := hw.1 c156
        refine Wx.mask [true, false, true] (lo2 := [some (rV x0), none, some (iV (-1))]) rfl ?_
        exact w_X8_isName_161 HE hr f0 hw
      · have hw := hw.2 c156
        refine x_iconst HE dX8_isName_159 (by decide) ?_
        refine x_istore_n HE 2 (lo' := [some (rV x0), some (rV y14), some (iV 5)]) dX8_isName_160 rfl (Nat.le_of_ble_eq_true rfl) rfl ?_
        refine Wx.mask [true, false, true] (lo2 := [some (rV x0), none, some (iV 5)]) rfl ?_
        exact w_X8_isName_161 HE hr f0 hw
    have hw := hw.2
    by_cases s21_95852696 : r18 = 95852696
    · have hw := hw.1 s21_95852696
      refine x_lookup (off := 73) HE 94 dX8_isName_21 (by decide) ((congrArg (Op.lookupswitch.offset _ _) s21_95852696).trans (by decide +kernel)) (by decide) ?_
      refine x_aload_n HE 1 dX8_isName_94 rfl rfl ?_
      refine x_ldcS (k := 4) HE dX8_isName_95 (List.mem_of_getElem? (i := 11) rfl) (fun hp95 => ?_)
      refine x_callV (t := hT m18 y14) HE dX8_isName_97 rfl (fun l => k_J5_equals (u18_0.ext E18) l hw) (As := [rV (hF m18 0 5)]) (rest := []) rfl (Strg.xc (u18_0.ext E18)) rfl (lw_V q696 q655 q656 q136 q657) hy_J5_equals rfl rfl (Nat.le_of_ble_eq_true rfl) (Nat.le_of_ble_eq_true rfl) (Nat.le_of_ble_eq_true rfl) (kkI (fun r97 m97 E97 hw => ?_))
      have hw := hw E97
      refine x_if_eq HE 161 dX8_isName_100 (by decide) (fun c100 => ?_) (fun c100 => ?_)
      · have hw := hw.1 c100
        refine Wx.mask [true, false, true] (lo2 := [some (rV x0), none, some (iV (-1))]) rfl ?_
        exact w_X8_isName_161 HE hr f0 hw
      · have hw := hw.2 c100
        refine x_iconst HE dX8_isName_103 (by decide) ?_
        refine x_istore_n HE 2 (lo' := [some (rV x0), some (rV y14), some (iV 1)]) dX8_isName_104 rfl (Nat.le_of_ble_eq_true rfl) rfl ?_
        refine x_goto HE 161 dX8_isName_105 (by decide) ?_
        refine Wx.mask [true, false, true] (lo2 := [some (rV x0), none, some (iV 1)]) rfl ?_
        exact w_X8_isName_161 HE hr f0 hw
    have hw := hw.2
    by_cases s21_99469088 : r18 = 99469088
    · have hw := hw.1 s21_99469088
      refine x_lookup (off := 59) HE 80 dX8_isName_21 (by decide) ((congrArg (Op.lookupswitch.offset _ _) s21_99469088).trans (by decide +kernel)) (by decide) ?_
      refine x_aload_n HE 1 dX8_isName_80 rfl rfl ?_
      refine x_ldcS (k := 1) HE dX8_isName_81 (List.mem_of_getElem? (i := 10) rfl) (fun hp81 => ?_)
      refine x_callV (t := hT m18 y14) HE dX8_isName_83 rfl (fun l => k_J5_equals (u18_0.ext E18) l hw) (As := [rV (hF m18 0 2)]) (rest := []) rfl (Strg.xc (u18_0.ext E18)) rfl (lw_V q696 q655 q656 q136 q657) hy_J5_equals rfl rfl (Nat.le_of_ble_eq_true rfl) (Nat.le_of_ble_eq_true rfl) (Nat.le_of_ble_eq_true rfl) (kkI (fun r83 m83 E83 hw => ?_))
      have hw := hw E83
      refine x_if_eq HE 161 dX8_isName_86 (by decide) (fun c86 => ?_) (fun c86 => ?_)
      · have hw := hw.1 c86
        refine Wx.mask [true, false, true] (lo2 := [some (rV x0), none, some (iV (-1))]) rfl ?_
        exact w_X8_isName_161 HE hr f0 hw
      · have hw := hw.2 c86
        refine x_iconst HE dX8_isName_89 (by decide) ?_
        refine x_istore_n HE 2 (lo' := [some (rV x0), some (rV y14), some (iV 0)]) dX8_isName_90 rfl (Nat.le_of_ble_eq_true rfl) rfl ?_
        refine x_goto HE 161 dX8_isName_91 (by decide) ?_
        refine Wx.mask [true, false, true] (lo2 := [some (rV x0), none, some (iV 0)]) rfl ?_
        exact w_X8_isName_161 HE hr f0 hw
    have hw := hw.2
    by_cases s21_109403690 : r18 = 109403690
    · have hw := hw.1 s21_109403690
      refine x_lookup (off := 115) HE 136 dX8_isName_21 (by decide) ((congrArg (Op.lookupswitch.offset _ _) s21_109403690).trans (by decide +kernel)) (by decide) ?_
      refine x_aload_n HE 1 dX8_isName_136 rfl rfl ?_
      refine x_ldcS (k := 7) HE dX8_isName_137 (List.mem_of_getElem? (i := 14) rfl) (fun hp137 => ?_)
      refine x_callV (t := hT m18 y14) HE dX8_isName_139 rfl (fun l => k_J5_equals (u18_0.ext E18) l hw) (As := [rV (hF m18 0 8)]) (rest := []) rfl (Strg.xc (u18_0.ext E18)) rfl (lw_V q696 q655 q656 q136 q657) hy_J5_equals rfl rfl (Nat.le_of_ble_eq_true rfl) (Nat.le_of_ble_eq_true rfl) (Nat.le_of_ble_eq_true rfl) (kkI (fun r139 m139 E139 hw => ?_))
      have hw := hw E139
      refine x_if_eq HE 161 dX8_isName_142 (by decide) (fun c142 => ?_) (fun c142 => ?_)
      · have hw := hw.1 c142
        refine Wx.mask [true, false, true] (lo2 := [some (rV x0), none, some (iV (-1))]) rfl ?_
        exact w_X8_isName_161 HE hr f0 hw
      · have hw := hw.2 c142
        refine x_iconst HE dX8_isName_145 (by decide) ?_
        refine x_istore_n HE 2 (lo' := [some (rV x0), some (rV y14), some (iV 4)]) dX8_isName_146 rfl (Nat.le_of_ble_eq_true rfl) rfl ?_
        refine x_goto HE 161 dX8_isName_147 (by decide) ?_
        refine Wx.mask [true, false, true] (lo2 := [some (rV x0), none, some (iV 4)]) rfl ?_
        exact w_X8_isName_161 HE hr f0 hw
    have hw := hw.2
    by_cases s21_109757152 : r18 = 109757152
    · have hw := hw.1 s21_109757152
      refine x_lookup (off := 87) HE 108 dX8_isName_21 (by decide) ((congrArg (Op.lookupswitch.offset _ _) s21_109757152).trans (by decide +kernel)) (by decide) ?_
      refine x_aload_n HE 1 dX8_isName_108 rfl rfl ?_
      refine x_ldcS (k := 5) HE dX8_isName_109 (List.mem_of_getElem? (i := 12) rfl) (fun hp109 => ?_)
      refine x_callV (t := hT m18 y14) HE dX8_isName_111 rfl (fun l => k_J5_equals (u18_0.ext E18) l hw) (As := [rV (hF m18 0 6)]) (rest := []) rfl (Strg.xc (u18_0.ext E18)) rfl (lw_V q696 q655 q656 q136 q657) hy_J5_equals rfl rfl (Nat.le_of_ble_eq_true rfl) (Nat.le_of_ble_eq_true rfl) (Nat.le_of_ble_eq_true rfl) (kkI (fun r111 m111 E111 hw => ?_))
      have hw := hw E111
      refine x_if_eq HE 161 dX8_isName_114 (by decide) (fun c114 => ?_) (fun c114 => ?_)
      · have hw := hw.1 c114
        refine Wx.mask [true, false, true] (lo2 := [some (rV x0), none, some (iV (-1))]) rfl ?_
        exact w_X8_isName_161 HE hr f0 hw
      · have hw := hw.2 c114
        refine x_iconst HE dX8_isName_117 (by decide) ?_
        refine x_istore_n HE 2 (lo' := [some (rV x0), some (rV y14), some (iV 2)]) dX8_isName_118 rfl (Nat.le_of_ble_eq_true rfl) rfl ?_
        refine x_goto HE 161 dX8_isName_119 (by decide) ?_
        refine Wx.mask [true, false, true] (lo2 := [some (rV x0), none, some (iV 2)]) rfl ?_
        exact w_X8_isName_161 HE hr f0 hw
    have hw := hw.2
    have hw := hw ⟨s21_m991716523, s21_3523048, s21_95852696, s21_99469088, s21_109403690, s21_109757152⟩
    refine x_lookup (off := 140) HE 161 dX8_isName_21 (by decide) (lsw_off (by simp only [List.mem_cons, List.not_mem_nil, or_false, forall_eq_or_imp, forall_eq]; exact ⟨s21_m991716523, s21_3523048, s21_95852696, s21_99469088, s21_109403690, s21_109757152⟩)) (by decide) ?_
    refine Wx.mask [true, false, true] (lo2 := [some (rV x0), none, some (iV (-1))]) rfl ?_
    exact w_X8_isName_161 HE hr f0 hw
  · have hw := hw.2 c5
    refine x_iconst HE dX8_isName_8 (by decide) ?_
    exact x_zret HE hr dX8_isName_9 (by decide) hw
theorem k_X8_isName {G : GT} {x0 : Int} {Q : Int → Hp → Prop} {h : Hp} (f0 : hT h x0 = 18) (l : Launch) (hw : g_X8_isName x0 Q h) : XM G l yX8_isName cX8_isName 3 (some .boolean) 4 90 [rV x0] (QI Q) h :=
  XM.of (by decide) (Nat.le_of_ble_eq_true rfl) (fun X HE hr hn => w_X8_isName_0 HE hr f0 hw)
def g_X5_fresh_b36 (x0 : Int) (Q : Int → Hp → Prop) (l1 : Int) (h : Hp) : Prop :=
  g_X5_on x0 (fun m37 => Ext h m37 → ((hT m37 l1 = 18) ∧ (Q (hF m37 l1 3) m37))) h
theorem w_X5_fresh_36 {G : GT} {X : ET} {h0 : Hp} {x0 : Int} (HE : XE G X cX5_fresh 2 RX5 8 213 h0) (hr : XR X (some (.object "java/lang/String"))) (f0 : hT h0 x0 = 20) {Q : Int → Hp → Prop} {l1 : Int} {h : Hp} (hw : g_X5_fresh_b36 x0 Q l1 h) : Wx G X h0 (QR Q) h 36 [some (rV x0), some (rV l1)] [] := by
  refine Wx.start (fun EB => ?_)
  unfold g_X5_fresh_b36 at hw
  refine x_aload_n HE 0 dX5_fresh_36 rfl rfl ?_
  refine x_callV HE dX5_fresh_37 rfl (fun l => k_X5_on (EB.tag f0 (by decide)) l hw) (As := []) (rest := []) rfl xc20 (EB.tag f0 (by decide)) (lw_V q679 q681 qs6 q130 q682) hy_X5_on rfl rfl (Nat.le_of_ble_eq_true rfl) (Nat.le_of_ble_eq_true rfl) (Nat.le_of_ble_eq_true rfl) (kkV (fun m37 E37 hw => ?_))
  have hw := hw E37
  refine x_aload_n HE 1 dX5_fresh_40 rfl rfl ?_
  obtain ⟨v41, hw⟩ := hw
  refine x_gR HE dX5_fresh_41 fd_X8_3 q373 (Or.inl rfl) v41 rfl ?_
  exact x_aret HE hr (Or.inl ⟨_, rfl⟩) dX5_fresh_44 hw
def g_X5_fresh_b17 (x0 : Int) (Q : Int → Hp → Prop) (l1 : Int) (h : Hp) : Prop :=
  (hT h l1 = 18) ∧ ((Lay_X7 h (hF h x0 1)) ∧ (g_X7_isName (hF h x0 1) (hF h l1 3) (fun r25 m25 => Ext h m25 → (((r25 = 0) → (g_X5_fresh_b36 x0 Q l1 m25)) ∧ ((r25 ≠ 0) → (g_X5_wrong x0 3 (fun m33 => Ext m25 m33 → (g_X5_fresh_b36 x0 Q l1 m33)) m25)))) h))
theorem w_X5_fresh_17 {G : GT} {X : ET} {h0 : Hp} {x0 : Int} (HE : XE G X cX5_fresh 2 RX5 8 213 h0) (hr : XR X (some (.object "java/lang/String"))) (f0 : hT h0 x0 = 20) {Q : Int → Hp → Prop} {l1 : Int} {h : Hp} (hw : g_X5_fresh_b17 x0 Q l1 h) : Wx G X h0 (QR Q) h 17 [some (rV x0), some (rV l1)] [] := by
  refine Wx.start (fun EB => ?_)
  unfold g_X5_fresh_b17 at hw
  refine x_aload_n HE 0 dX5_fresh_17 rfl rfl ?_
  refine x_gR HE dX5_fresh_18 fd_X5_1 q574 (Or.inl rfl) (EB.tag f0 (by decide)) rfl ?_
  refine x_aload_n HE 1 dX5_fresh_21 rfl rfl ?_
  obtain ⟨v22, hw⟩ := hw
  refine x_gR HE dX5_fresh_22 fd_X8_3 q373 (Or.inl rfl) v22 rfl ?_
  obtain ⟨u25_0, hw⟩ := hw
  refine x_callV HE dX5_fresh_25 rfl (fun l => k_X7_isName u25_0 l hw) (As := [rV (hF h l1 3)]) (rest := []) rfl xc12 (Lay_X7.tag u25_0) (lw_V q730 q731 q732 q132 q733) hy_X7_isName rfl rfl (Nat.le_of_ble_eq_true rfl) (Nat.le_of_ble_eq_true rfl) (Nat.le_of_ble_eq_true rfl) (kkI (fun r25 m25 E25 hw => ?_))
  have hw := hw E25
  refine x_if_eq HE 36 dX5_fresh_28 (by decide) (fun c28 => ?_) (fun c28 => ?_)
  · have hw := hw.1 c28
    exact w_X5_fresh_36 HE hr f0 hw
  · have hw := hw.2 c28
    refine x_aload_n HE 0 dX5_fresh_31 rfl rfl ?_
    refine x_iconst HE dX5_fresh_32 (by decide) ?_
    refine x_callV HE dX5_fresh_33 rfl (fun l => k_X5_wrong ((EB.tr E25).tag f0 (by decide)) l hw) (As := [iV 3]) (rest := []) rfl xc20 ((EB.tr E25).tag f0 (by decide)) (lw_V q671 q673 qs4 q130 q674) hy_X5_wrong rfl rfl (Nat.le_of_ble_eq_true rfl) (Nat.le_of_ble_eq_true rfl) (Nat.le_of_ble_eq_true rfl) (kkV (fun m33 E33 hw => ?_))
    have hw := hw E33
    exact w_X5_fresh_36 HE hr f0 hw
def g_X5_fresh (x0 : Int) (Q : Int → Hp → Prop) (h : Hp) : Prop :=
  ∀ y4 : Int, y4 = (hF h x0 2) → ((hT h y4 = 18) ∧ (g_X8_isName y4 (fun r6 m6 => Ext h m6 → (((r6 ≠ 0) → (g_X5_fresh_b17 x0 Q y4 m6)) ∧ ((r6 = 0) → (g_X5_wrong x0 1 (fun m14 => Ext m6 m14 → (g_X5_fresh_b17 x0 Q y4 m14)) m6)))) h))
theorem w_X5_fresh_0 {G : GT} {X : ET} {h0 : Hp} {x0 : Int} (HE : XE G X cX5_fresh 2 RX5 8 213 h0) (hr : XR X (some (.object "java/lang/String"))) (f0 : hT h0 x0 = 20) {Q : Int → Hp → Prop} {h : Hp} (hw : g_X5_fresh x0 Q h) : Wx G X h0 (QR Q) h 0 [some (rV x0), none] [] := by
  refine Wx.start (fun EB => ?_)
  unfold g_X5_fresh at hw
  refine x_aload_n HE 0 dX5_fresh_0 rfl rfl ?_
  refine x_gR HE dX5_fresh_1 fd_X5_2 q575 (Or.inl rfl) (EB.tag f0 (by decide)) rfl ?_
  refine x_astore_nN HE 1 (fun y4 => [some (rV x0), some (rV y4)]) dX5_fresh_4 rfl (Nat.le_of_ble_eq_true rfl) (fun _ => rfl) (fun y4 ey4 => ?_)
  have hw := hw y4 ey4
  refine x_aload_n HE 1 dX5_fresh_5 rfl rfl ?_
  obtain ⟨u6_0, hw⟩ := hw
  refine x_callV HE dX5_fresh_6 rfl (fun l => k_X8_isName u6_0 l hw) (As := []) (rest := []) rfl xc18 u6_0 (lw_V q719 q720 q721 q133 q722) hy_X8_isName rfl rfl (Nat.le_of_ble_eq_true rfl) (Nat.le_of_ble_eq_true rfl) (Nat.le_of_ble_eq_true rfl) (kkI (fun r6 m6 E6 hw => ?_))
  have hw := hw E6
  refine x_if_ne HE 17 dX5_fresh_9 (by decide) (fun c9 => ?_) (fun c9 => ?_)
  · have hw := hw.1 c9
    exact w_X5_fresh_17 HE hr f0 hw
  · have hw := hw.2 c9
    refine x_aload_n HE 0 dX5_fresh_12 rfl rfl ?_
    refine x_iconst HE dX5_fresh_13 (by decide) ?_
    refine x_callV HE dX5_fresh_14 rfl (fun l => k_X5_wrong ((EB.tr E6).tag f0 (by decide)) l hw) (As := [iV 1]) (rest := []) rfl xc20 ((EB.tr E6).tag f0 (by decide)) (lw_V q671 q673 qs4 q130 q674) hy_X5_wrong rfl rfl (Nat.le_of_ble_eq_true rfl) (Nat.le_of_ble_eq_true rfl) (Nat.le_of_ble_eq_true rfl) (kkV (fun m14 E14 hw => ?_))
    have hw := hw E14
    exact w_X5_fresh_17 HE hr f0 hw
theorem k_X5_fresh {G : GT} {x0 : Int} {Q : Int → Hp → Prop} {h : Hp} (f0 : hT h x0 = 20) (l : Launch) (hw : g_X5_fresh x0 Q h) : XM G l yX5_fresh cX5_fresh 2 (some (.object "java/lang/String")) 8 213 [rV x0] (QR Q) h :=
  XM.of (by decide) (Nat.le_of_ble_eq_true rfl) (fun X HE hr hn => w_X5_fresh_0 HE hr f0 hw)
def g_X5_drink_b80 (x0 : Int) (Q : Hp → Prop) (h : Hp) : Prop :=
  Q h
theorem w_X5_drink_80 {G : GT} {X : ET} {h0 : Hp} {x0 : Int} (HE : XE G X cX5_drink 5 RX5 10 259 h0) (hr : XR X none) (f0 : hT h0 x0 = 20) {Q : Hp → Prop} {h : Hp} (hw : g_X5_drink_b80 x0 Q  h) : Wx G X h0 (QV Q) h 80 [some (rV x0), none, none, none, none] [] := by
  refine Wx.start (fun EB => ?_)
  unfold g_X5_drink_b80 at hw
  exact x_vret HE hr dX5_drink_80 hw
def g_X5_drink (x0 : Int) (Q : Hp → Prop) (h : Hp) : Prop :=
  (Lay_X7 h (hF h x0 1)) ∧ (g_J2_size ((hF h x0 1) + 1) (fun r8 m8 => Ext h m8 → (g_X5_begins x0 r8 5 (fun m12 => Ext m8 m12 → (g_X5_fresh x0 (fun r16 m16 => Ext m12 m16 → (g_X5_part x0 (hF m16 0 10) 1 90 (fun r26 m26 => Ext m16 m26 → (g_X5_part x0 (hF m26 0 11) 0 r26 (fun r35 m35 => Ext m26 m35 → (g_X5_part x0 (hF m35 0 12) 0 99 (fun r45 m45 => Ext m35 m45 → (g_X5_isOver x0 (fun r51 m51 => Ext m45 m51 → (((r51 ≠ 0) → (g_X5_drink_b80 x0 Q m51)) ∧ ((r51 = 0) → ((Lay_X7 m51 (hF m51 x0 1)) ∧ ((capOK m51 4) ∧ (∀ (a64 : Int) (m64 : Hp), a64 = hN m51 → m64 = alloc m51 15 0 4 → WFa m51 → (g_X9_init a64 r16 r26 r35 r45 (fun m73 => Ext m64 m73 → (g_J2_add ((hF m51 x0 1) + 1) a64 (fun r76 m76 => Ext m73 m76 → (g_X5_drink_b80 x0 Q m76)) m73)) m64))))))) m45)) m35)) m26)) m16)) m12)) m8)) h)
theorem w_X5_drink_0 {G : GT} {X : ET} {h0 : Hp} {x0 : Int} (HE : XE G X cX5_drink 5 RX5 10 259 h0) (hr : XR X none) (f0 : hT h0 x0 = 20) {Q : Hp → Prop} {h : Hp} (hw : g_X5_drink x0 Q h) : Wx G X h0 (QV Q) h 0 [some (rV x0), none, none, none, none] [] := by
  refine Wx.start (fun EB => ?_)
  unfold g_X5_drink at hw
  refine x_aload_n HE 0 dX5_drink_0 rfl rfl ?_
  refine x_aload_n HE 0 dX5_drink_1 rfl rfl ?_
  refine x_gR HE dX5_drink_2 fd_X5_1 q574 (Or.inl rfl) (EB.tag f0 (by decide)) rfl ?_
  obtain ⟨v5, hw⟩ := hw
  refine x_gR HE dX5_drink_5 fd_X7_3 q321 (Or.inl rfl) (Lay_X7.tag v5) (Lay_X7_3 v5).1 ?_
  refine x_callV HE dX5_drink_8 rfl (fun l => k_J2_size ((Lay_X7_3 v5).2) l hw) (As := []) (rest := [rV x0]) rfl xc32 ((Lay_X7_3 v5).2) (lw_V q707 q708 q709 q128 q710) hy_J2_size rfl rfl (Nat.le_of_ble_eq_true rfl) (Nat.le_of_ble_eq_true rfl) (Nat.le_of_ble_eq_true rfl) (kkI (fun r8 m8 E8 hw => ?_))
  have hw := hw E8
  refine x_iconst HE dX5_drink_11 (by decide) ?_
  refine x_callV HE dX5_drink_12 rfl (fun l => k_X5_begins ((EB.tr E8).tag f0 (by decide)) l hw) (As := [iV r8, iV 5]) (rest := []) rfl xc20 ((EB.tr E8).tag f0 (by decide)) (lw_V q711 q713 qs11 q130 q714) hy_X5_begins rfl rfl (Nat.le_of_ble_eq_true rfl) (Nat.le_of_ble_eq_true rfl) (Nat.le_of_ble_eq_true rfl) (kkV (fun m12 E12 hw => ?_))
  have hw := hw E12
  refine x_aload_n HE 0 dX5_drink_15 rfl rfl ?_
  refine x_callV HE dX5_drink_16 rfl (fun l => k_X5_fresh ((EB.tr (E8.tr E12)).tag f0 (by decide)) l hw) (As := []) (rest := []) rfl xc20 ((EB.tr (E8.tr E12)).tag f0 (by decide)) (lw_V q715 q717 qs12 q130 q718) hy_X5_fresh rfl rfl (Nat.le_of_ble_eq_true rfl) (Nat.le_of_ble_eq_true rfl) (Nat.le_of_ble_eq_true rfl) (kkR (fun r16 m16 E16 hw => ?_))
  have hw := hw E16
  refine x_astore_n HE 1 (lo' := [some (rV x0), some (rV r16), none, none, none]) dX5_drink_19 rfl (Nat.le_of_ble_eq_true rfl) rfl ?_
  refine x_aload_n HE 0 dX5_drink_20 rfl rfl ?_
  refine x_ldcS (k := 9) HE dX5_drink_21 (List.mem_of_getElem? (i := 16) rfl) (fun hp21 => ?_)
  refine x_iconst HE dX5_drink_23 (by decide) ?_
  refine x_bipush HE dX5_drink_24 (by decide) ?_
  refine x_callV HE dX5_drink_26 rfl (fun l => k_X5_part ((EB.tr (E8.tr (E12.tr E16))).tag f0 (by decide)) l hw) (As := [rV (hF m16 0 10), iV 1, iV 90]) (rest := []) rfl xc20 ((EB.tr (E8.tr (E12.tr E16))).tag f0 (by decide)) (lw_V q684 q686 qs7 q130 q687) hy_X5_part rfl rfl (Nat.le_of_ble_eq_true rfl) (Nat.le_of_ble_eq_true rfl) (Nat.le_of_ble_eq_true rfl) (kkI (fun r26 m26 E26 hw => ?_))
  have hw := hw E26
  refine x_istore_n HE 2 (lo' := [some (rV x0), some (rV r16), some (iV r26), none, none]) dX5_drink_29 rfl (Nat.le_of_ble_eq_true rfl) rfl ?_
  refine x_aload_n HE 0 dX5_drink_30 rfl rfl ?_
  refine x_ldcS (k := 10) HE dX5_drink_31 (List.mem_of_getElem? (i := 17) rfl) (fun hp31 => ?_)
  refine x_iconst HE dX5_drink_33 (by decide) ?_
  refine x_iload_n HE 2 dX5_drink_34 rfl rfl ?_
  refine x_callV HE dX5_drink_35 rfl (fun l => k_X5_part ((EB.tr (E8.tr (E12.tr (E16.tr E26)))).tag f0 (by decide)) l hw) (As := [rV (hF m26 0 11), iV 0, iV r26]) (rest := []) rfl xc20 ((EB.tr (E8.tr (E12.tr (E16.tr E26)))).tag f0 (by decide)) (lw_V q684 q686 qs7 q130 q687) hy_X5_part rfl rfl (Nat.le_of_ble_eq_true rfl) (Nat.le_of_ble_eq_true rfl) (Nat.le_of_ble_eq_true rfl) (kkI (fun r35 m35 E35 hw => ?_))
  have hw := hw E35
  refine x_istore_n HE 3 (lo' := [some (rV x0), some (rV r16), some (iV r26), some (iV r35), none]) dX5_drink_38 rfl (Nat.le_of_ble_eq_true rfl) rfl ?_
  refine x_aload_n HE 0 dX5_drink_39 rfl rfl ?_
  refine x_ldcS (k := 11) HE dX5_drink_40 (List.mem_of_getElem? (i := 18) rfl) (fun hp40 => ?_)
  refine x_iconst HE dX5_drink_42 (by decide) ?_
  refine x_bipush HE dX5_drink_43 (by decide) ?_
  refine x_callV HE dX5_drink_45 rfl (fun l => k_X5_part ((EB.tr (E8.tr (E12.tr (E16.tr (E26.tr E35))))).tag f0 (by decide)) l hw) (As := [rV (hF m35 0 12), iV 0, iV 99]) (rest := []) rfl xc20 ((EB.tr (E8.tr (E12.tr (E16.tr (E26.tr E35))))).tag f0 (by decide)) (lw_V q684 q686 qs7 q130 q687) hy_X5_part rfl rfl (Nat.le_of_ble_eq_true rfl) (Nat.le_of_ble_eq_true rfl) (Nat.le_of_ble_eq_true rfl) (kkI (fun r45 m45 E45 hw => ?_))
  have hw := hw E45
  refine x_istore HE (lo' := [some (rV x0), some (rV r16), some (iV r26), some (iV r35), some (iV r45)]) dX5_drink_48 (Nat.le_of_ble_eq_true rfl) rfl ?_
  refine x_aload_n HE 0 dX5_drink_50 rfl rfl ?_
  refine x_callV HE dX5_drink_51 rfl (fun l => k_X5_isOver ((EB.tr (E8.tr (E12.tr (E16.tr (E26.tr (E35.tr E45)))))).tag f0 (by decide)) l hw) (As := []) (rest := []) rfl xc20 ((EB.tr (E8.tr (E12.tr (E16.tr (E26.tr (E35.tr E45)))))).tag f0 (by decide)) (lw_V q675 q677 qs5 q130 q678) hy_X5_isOver rfl rfl (Nat.le_of_ble_eq_true rfl) (Nat.le_of_ble_eq_true rfl) (Nat.le_of_ble_eq_true rfl) (kkI (fun r51 m51 E51 hw => ?_))
  have hw := hw E51
  refine x_if_ne HE 80 dX5_drink_54 (by decide) (fun c54 => ?_) (fun c54 => ?_)
  · have hw := hw.1 c54
    refine Wx.mask [true, false, false, false, false] (lo2 := [some (rV x0), none, none, none, none]) rfl ?_
    exact w_X5_drink_80 HE hr f0 hw
  · have hw := hw.2 c54
    refine x_aload_n HE 0 dX5_drink_57 rfl rfl ?_
    refine x_gR HE dX5_drink_58 fd_X5_1 q574 (Or.inl rfl) ((EB.tr (E8.tr (E12.tr (E16.tr (E26.tr (E35.tr (E45.tr E51))))))).tag f0 (by decide)) rfl ?_
    obtain ⟨v61, hw⟩ := hw
    refine x_gR HE dX5_drink_61 fd_X7_3 q321 (Or.inl rfl) (Lay_X7.tag v61) (Lay_X7_3 v61).1 ?_
    obtain ⟨v64, hw⟩ := hw
    refine x_newN HE dX5_drink_64 xc15 (by decide) (nro (by decide)) q762 q763 q145 v64 (fun a64 m64 ea64 em64 E64 w64 => ?_)
    have hw := hw a64 m64 ea64 em64 w64
    have t64 := alloc_tag ea64 em64
    refine x_dup HE dX5_drink_67 (fun o => o) ?_
    refine x_aload_n HE 1 dX5_drink_68 rfl rfl ?_
    refine x_iload_n HE 2 dX5_drink_69 rfl rfl ?_
    refine x_iload_n HE 3 dX5_drink_70 rfl rfl ?_
    refine x_iload HE dX5_drink_71 rfl ?_
    refine Wx.wf (fun wf73 => ?_)
    refine x_callI HE dX5_drink_73 rfl (fun l => k_X9_init t64 l hw) (As := [rV r16, iV r26, iV r35, iV r45]) (rest := [rV a64, rV ((hF m51 x0 1) + 1)]) rfl (tag_pos wf73 t64 (by decide)) q764 q145 q765 q766 rfl hy_X9_init.2 rfl rfl (Nat.le_of_ble_eq_true rfl) (Nat.le_of_ble_eq_true rfl) (Nat.le_of_ble_eq_true rfl) (kkV (fun m73 E73 hw => ?_))
    have hw := hw E73
    refine x_callV HE dX5_drink_76 rfl (fun l => k_J2_add ((Lay_X7_3 (v61.ext (E64.tr E73))).2) l hw) (As := [rV a64]) (rest := []) rfl xc32 ((Lay_X7_3 (v61.ext (E64.tr E73))).2) (lw_V q783 q784 q785 q128 q786) hy_J2_add rfl rfl (Nat.le_of_ble_eq_true rfl) (Nat.le_of_ble_eq_true rfl) (Nat.le_of_ble_eq_true rfl) (kkI (fun r76 m76 E76 hw => ?_))
    have hw := hw E76
    refine x_pop HE dX5_drink_79 (fun o => o) ?_
    refine Wx.mask [true, false, false, false, false] (lo2 := [some (rV x0), none, none, none, none]) rfl ?_
    exact w_X5_drink_80 HE hr f0 hw
theorem k_X5_drink {G : GT} {x0 : Int} {Q : Hp → Prop} {h : Hp} (f0 : hT h x0 = 20) (l : Launch) (hw : g_X5_drink x0 Q h) : XM G l yX5_drink cX5_drink 5 none 10 259 [rV x0] (QV Q) h :=
  XM.of (by decide) (Nat.le_of_ble_eq_true rfl) (fun X HE hr hn => w_X5_drink_0 HE hr f0 hw)
def g_X5_ruleNumber_b147 (x0 : Int) (Q : Int → Hp → Prop) (l2 : Int) (h : Hp) : Prop :=
  ((l2 = 0) → (Q 0 h)) ∧ ((l2 = 1) → (Q 1 h)) ∧ ((l2 = 2) → (Q 2 h)) ∧ ((l2 = 3) → (Q 3 h)) ∧ ((l2 = 4) → (Q 4 h)) ∧ ((l2 ≠ 0 ∧ l2 ≠ 1 ∧ l2 ≠ 2 ∧ l2 ≠ 3 ∧ l2 ≠ 4) → (g_X5_wrong x0 1 (fun m196 => Ext h m196 → (Q 0 m196)) h))
theorem w_X5_ruleNumber_147 {G : GT} {X : ET} {h0 : Hp} {x0 : Int} (HE : XE G X cX5_ruleNumber 3 RX5 4 90 h0) (hr : XR X (some .int)) (f0 : hT h0 x0 = 20) {Q : Int → Hp → Prop} {l2 : Int} {h : Hp} (hw : g_X5_ruleNumber_b147 x0 Q l2 h) : Wx G X h0 (QI Q) h 147 [some (rV x0), none, some (iV l2)] [] := by
  refine Wx.start (fun EB => ?_)
  unfold g_X5_ruleNumber_b147 at hw
  refine x_iload_n HE 2 dX5_ruleNumber_147 rfl rfl ?_
  by_cases s148_0 : l2 = 0
  · have hw := hw.1 s148_0
    refine x_tabIn HE 184 dX5_ruleNumber_148 0 s148_0 (by decide) rfl (by decide) ?_
    refine x_iconst HE dX5_ruleNumber_184 (by decide) ?_
    exact x_iret HE hr dX5_ruleNumber_185 hw
  have hw := hw.2
  by_cases s148_1 : l2 = 1
  · have hw := hw.1 s148_1
    refine x_tabIn HE 186 dX5_ruleNumber_148 1 s148_1 (by decide) rfl (by decide) ?_
    refine x_iconst HE dX5_ruleNumber_186 (by decide) ?_
    exact x_iret HE hr dX5_ruleNumber_187 hw
  have hw := hw.2
  by_cases s148_2 : l2 = 2
  · have hw := hw.1 s148_2
    refine x_tabIn HE 188 dX5_ruleNumber_148 2 s148_2 (by decide) rfl (by decide) ?_
    refine x_iconst HE dX5_ruleNumber_188 (by decide) ?_
    exact x_iret HE hr dX5_ruleNumber_189 hw
  have hw := hw.2
  by_cases s148_3 : l2 = 3
  · have hw := hw.1 s148_3
    refine x_tabIn HE 190 dX5_ruleNumber_148 3 s148_3 (by decide) rfl (by decide) ?_
    refine x_iconst HE dX5_ruleNumber_190 (by decide) ?_
    exact x_iret HE hr dX5_ruleNumber_191 hw
  have hw := hw.2
  by_cases s148_4 : l2 = 4
  · have hw := hw.1 s148_4
    refine x_tabIn HE 192 dX5_ruleNumber_148 4 s148_4 (by decide) rfl (by decide) ?_
    refine x_iconst HE dX5_ruleNumber_192 (by decide) ?_
    exact x_iret HE hr dX5_ruleNumber_193 hw
  have hw := hw.2
  have hw := hw ⟨s148_0, s148_1, s148_2, s148_3, s148_4⟩
  refine x_tabOut HE 194 dX5_ruleNumber_148 (tabE (tabS (b := 5) (tabS (b := 4) (tabS (b := 3) (tabS (b := 2) (tabS (b := 1) (Int.lt_or_le l2 0) (by decide) s148_0) (by decide) s148_1) (by decide) s148_2) (by decide) s148_3) (by decide) s148_4) (by decide)) (by decide) ?_
  refine x_aload_n HE 0 dX5_ruleNumber_194 rfl rfl ?_
  refine x_iconst HE dX5_ruleNumber_195 (by decide) ?_
  refine x_callV HE dX5_ruleNumber_196 rfl (fun l => k_X5_wrong (EB.tag f0 (by decide)) l hw) (As := [iV 1]) (rest := []) rfl xc20 (EB.tag f0 (by decide)) (lw_V q671 q673 qs4 q130 q674) hy_X5_wrong rfl rfl (Nat.le_of_ble_eq_true rfl) (Nat.le_of_ble_eq_true rfl) (Nat.le_of_ble_eq_true rfl) (kkV (fun m196 E196 hw => ?_))
  have hw := hw E196
  refine x_iconst HE dX5_ruleNumber_199 (by decide) ?_
  exact x_iret HE hr dX5_ruleNumber_200 hw
def g_X5_ruleNumber_b23 (x0 : Int) (Q : Int → Hp → Prop) (s0 : Int) (h : Hp) : Prop :=
  (Strg h s0) ∧ (g_J5_hashCode s0 (fun r27 m27 => Ext h m27 → (((r27 = 100913) → (g_J5_equals s0 (hF m27 0 15) (fun r111 m111 => Ext m27 m111 → (((r111 = 0) → (g_X5_ruleNumber_b147 x0 Q (-1) m111)) ∧ ((r111 ≠ 0) → (g_X5_ruleNumber_b147 x0 Q 2 m111)))) m27)) ∧ ((r27 = 113114) → (g_J5_equals s0 (hF m27 0 13) (fun r83 m83 => Ext m27 m83 → (((r83 = 0) → (g_X5_ruleNumber_b147 x0 Q (-1) m83)) ∧ ((r83 ≠ 0) → (g_X5_ruleNumber_b147 x0 Q 0 m83)))) m27)) ∧ ((r27 = 3377192) → (g_J5_equals s0 (hF m27 0 14) (fun r97 m97 => Ext m27 m97 → (((r97 = 0) → (g_X5_ruleNumber_b147 x0 Q (-1) m97)) ∧ ((r97 ≠ 0) → (g_X5_ruleNumber_b147 x0 Q 1 m97)))) m27)) ∧ ((r27 = 93113560) → (g_J5_equals s0 (hF m27 0 16) (fun r125 m125 => Ext m27 m125 → (((r125 = 0) → (g_X5_ruleNumber_b147 x0 Q (-1) m125)) ∧ ((r125 ≠ 0) → (g_X5_ruleNumber_b147 x0 Q 3 m125)))) m27)) ∧ ((r27 = 1086463900) → (g_J5_equals s0 (hF m27 0 17) (fun r139 m139 => Ext m27 m139 → (((r139 = 0) → (g_X5_ruleNumber_b147 x0 Q (-1) m139)) ∧ ((r139 ≠ 0) → (g_X5_ruleNumber_b147 x0 Q 4 m139)))) m27)) ∧ ((r27 ≠ 100913 ∧ r27 ≠ 113114 ∧ r27 ≠ 3377192 ∧ r27 ≠ 93113560 ∧ r27 ≠ 1086463900) → (g_X5_ruleNumber_b147 x0 Q (-1) m27)))) h)
theorem w_X5_ruleNumber_23 {G : GT} {X : ET} {h0 : Hp} {x0 : Int} (HE : XE G X cX5_ruleNumber 3 RX5 4 90 h0) (hr : XR X (some .int)) (f0 : hT h0 x0 = 20) {Q : Int → Hp → Prop} {s0 : Int} {h : Hp} (hw : g_X5_ruleNumber_b23 x0 Q s0 h) : Wx G X h0 (QI Q) h 23 [some (rV x0), none, none] [rV s0] := by
  refine Wx.start (fun EB => ?_)
  unfold g_X5_ruleNumber_b23 at hw
  refine x_astore_n HE 1 (lo' := [some (rV x0), some (rV s0), none]) dX5_ruleNumber_23 rfl (Nat.le_of_ble_eq_true rfl) rfl ?_
  refine x_iconst HE dX5_ruleNumber_24 (by decide) ?_
  refine x_istore_n HE 2 (lo' := [some (rV x0), some (rV s0), some (iV (-1))]) dX5_ruleNumber_25 rfl (Nat.le_of_ble_eq_true rfl) rfl ?_
  refine x_aload_n HE 1 dX5_ruleNumber_26 rfl rfl ?_
  obtain ⟨u27_0, hw⟩ := hw
  refine x_callV (t := hT h s0) HE dX5_ruleNumber_27 rfl (fun l => k_J5_hashCode u27_0 l hw) (As := []) (rest := []) rfl (Strg.xc u27_0) rfl (lw_V q600 q601 q602 q136 q603) hy_J5_hashCode rfl rfl (Nat.le_of_ble_eq_true rfl) (Nat.le_of_ble_eq_true rfl) (Nat.le_of_ble_eq_true rfl) (kkI (fun r27 m27 E27 hw => ?_))
  have hw := hw E27
  by_cases s30_100913 : r27 = 100913
  · have hw := hw.1 s30_100913
    refine x_lookup (off := 78) HE 108 dX5_ruleNumber_30 (by decide) ((congrArg (Op.lookupswitch.offset _ _) s30_100913).trans (by decide +kernel)) (by decide) ?_
    refine x_aload_n HE 1 dX5_ruleNumber_108 rfl rfl ?_
    refine x_ldcS (k := 14) HE dX5_ruleNumber_109 (List.mem_of_getElem? (i := 21) rfl) (fun hp109 => ?_)
    refine x_callV (t := hT m27 s0) HE dX5_ruleNumber_111 rfl (fun l => k_J5_equals (u27_0.ext E27) l hw) (As := [rV (hF m27 0 15)]) (rest := []) rfl (Strg.xc (u27_0.ext E27)) rfl (lw_V q654 q655 q656 q136 q657) hy_J5_equals rfl rfl (Nat.le_of_ble_eq_true rfl) (Nat.le_of_ble_eq_true rfl) (Nat.le_of_ble_eq_true rfl) (kkI (fun r111 m111 E111 hw => ?_))
    have hw := hw E111
    refine x_if_eq HE 147 dX5_ruleNumber_114 (by decide) (fun c114 => ?_) (fun c114 => ?_)
    · have hw := hw.1 c114
      refine Wx.mask [true, false, true] (lo2 := [some (rV x0), none, some (iV (-1))]) rfl ?_
      exact w_X5_ruleNumber_147 HE hr f0 hw
    · have hw := hw.2 c114
      refine x_iconst HE dX5_ruleNumber_117 (by decide) ?_
      refine x_istore_n HE 2 (lo' := [some (rV x0), some (rV s0), some (iV 2)]) dX5_ruleNumber_118 rfl (Nat.le_of_ble_eq_true rfl) rfl ?_
      refine x_goto HE 147 dX5_ruleNumber_119 (by decide) ?_
      refine Wx.mask [true, false, true] (lo2 := [some (rV x0), none, some (iV 2)]) rfl ?_
      exact w_X5_ruleNumber_147 HE hr f0 hw
  have hw := hw.2
  by_cases s30_113114 : r27 = 113114
  · have hw := hw.1 s30_113114
    refine x_lookup (off := 50) HE 80 dX5_ruleNumber_30 (by decide) ((congrArg (Op.lookupswitch.offset _ _) s30_113114).trans (by decide +kernel)) (by decide) ?_
    refine x_aload_n HE 1 dX5_ruleNumber_80 rfl rfl ?_
    refine x_ldcS (k := 12) HE dX5_ruleNumber_81 (List.mem_of_getElem? (i := 19) rfl) (fun hp81 => ?_)
    refine x_callV (t := hT m27 s0) HE dX5_ruleNumber_83 rfl (fun l => k_J5_equals (u27_0.ext E27) l hw) (As := [rV (hF m27 0 13)]) (rest := []) rfl (Strg.xc (u27_0.ext E27)) rfl (lw_V q654 q655 q656 q136 q657) hy_J5_equals rfl rfl (Nat.le_of_ble_eq_true rfl) (Nat.le_of_ble_eq_true rfl) (Nat.le_of_ble_eq_true rfl) (kkI (fun r83 m83 E83 hw => ?_))
    have hw := hw E83
    refine x_if_eq HE 147 dX5_ruleNumber_86 (by decide) (fun c86 => ?_) (fun c86 => ?_)
    · have hw := hw.1 c86
      refine Wx.mask [true, false, true] (lo2 := [some (rV x0), none, some (iV (-1))]) rfl ?_
      exact w_X5_ruleNumber_147 HE hr f0 hw
    · have hw := hw.2 c86
      refine x_iconst HE dX5_ruleNumber_89 (by decide) ?_
      refine x_istore_n HE 2 (lo' := [some (rV x0), some (rV s0), some (iV 0)]) dX5_ruleNumber_90 rfl (Nat.le_of_ble_eq_true rfl) rfl ?_
      refine x_goto HE 147 dX5_ruleNumber_91 (by decide) ?_
      refine Wx.mask [true, false, true] (lo2 := [some (rV x0), none, some (iV 0)]) rfl ?_
      exact w_X5_ruleNumber_147 HE hr f0 hw
  have hw := hw.2
  by_cases s30_3377192 : r27 = 3377192
  · have hw := hw.1 s30_3377192
    refine x_lookup (off := 64) HE 94 dX5_ruleNumber_30 (by decide) ((congrArg (Op.lookupswitch.offset _ _) s30_3377192).trans (by decide +kernel)) (by decide) ?_
    refine x_aload_n HE 1 dX5_ruleNumber_94 rfl rfl ?_
    refine x_ldcS (k := 13) HE dX5_ruleNumber_95 (List.mem_of_getElem? (i := 20) rfl) (fun hp95 => ?_)
    refine x_callV (t := hT m27 s0) HE dX5_ruleNumber_97 rfl (fun l => k_J5_equals (u27_0.ext E27) l hw) (As := [rV (hF m27 0 14)]) (rest := []) rfl (Strg.xc (u27_0.ext E27)) rfl (lw_V q654 q655 q656 q136 q657) hy_J5_equals rfl rfl (Nat.le_of_ble_eq_true rfl) (Nat.le_of_ble_eq_true rfl) (Nat.le_of_ble_eq_true rfl) (kkI (fun r97 m97 E97 hw => ?_))
    have hw := hw E97
    refine x_if_eq HE 147 dX5_ruleNumber_100 (by decide) (fun c100 => ?_) (fun c100 => ?_)
    · have hw := hw.1 c100
      refine Wx.mask [true, false, true] (lo2 := [some (rV x0), none, some (iV (-1))]) rfl ?_
      exact w_X5_ruleNumber_147 HE hr f0 hw
    · have hw := hw.2 c100
      refine x_iconst HE dX5_ruleNumber_103 (by decide) ?_
      refine x_istore_n HE 2 (lo' := [some (rV x0), some (rV s0), some (iV 1)]) dX5_ruleNumber_104 rfl (Nat.le_of_ble_eq_true rfl) rfl ?_
      refine x_goto HE 147 dX5_ruleNumber_105 (by decide) ?_
      refine Wx.mask [true, false, true] (lo2 := [some (rV x0), none, some (iV 1)]) rfl ?_
      exact w_X5_ruleNumber_147 HE hr f0 hw
  have hw := hw.2
  by_cases s30_93113560 : r27 = 93113560
  · have hw := hw.1 s30_93113560
    refine x_lookup (off := 92) HE 122 dX5_ruleNumber_30 (by decide) ((congrArg (Op.lookupswitch.offset _ _) s30_93113560).trans (by decide +kernel)) (by decide) ?_
    refine x_aload_n HE 1 dX5_ruleNumber_122 rfl rfl ?_
    refine x_ldcS (k := 15) HE dX5_ruleNumber_123 (List.mem_of_getElem? (i := 22) rfl) (fun hp123 => ?_)
    refine x_callV (t := hT m27 s0) HE dX5_ruleNumber_125 rfl (fun l => k_J5_equals (u27_0.ext E27) l hw) (As := [rV (hF m27 0 16)]) (rest := []) rfl (Strg.xc (u27_0.ext E27)) rfl (lw_V q654 q655 q656 q136 q657) hy_J5_equals rfl rfl (Nat.le_of_ble_eq_true rfl) (Nat.le_of_ble_eq_true rfl) (Nat.le_of_ble_eq_true rfl) (kkI (fun r125 m125 E125 hw => ?_))
    have hw := hw E125
    refine x_if_eq HE 147 dX5_ruleNumber_128 (by decide) (fun c128 => ?_) (fun c128 => ?_)
    · have hw := hw.1 c128
      refine Wx.mask [true, false, true] (lo2 := [some (rV x0), none, some (iV (-1))]) rfl ?_
      exact w_X5_ruleNumber_147 HE hr f0 hw
    · have hw := hw.2 c128
      refine x_iconst HE dX5_ruleNumber_131 (by decide) ?_
      refine x_istore_n HE 2 (lo' := [some (rV x0), some (rV s0), some (iV 3)]) dX5_ruleNumber_132 rfl (Nat.le_of_ble_eq_true rfl) rfl ?_
      refine x_goto HE 147 dX5_ruleNumber_133 (by decide) ?_
      refine Wx.mask [true, false, true] (lo2 := [some (rV x0), none, some (iV 3)]) rfl ?_
      exact w_X5_ruleNumber_147 HE hr f0 hw
  have hw := hw.2
  by_cases s30_1086463900 : r27 = 1086463900
  · have hw := hw.1 s30_1086463900
    refine x_lookup (off := 106) HE 136 dX5_ruleNumber_30 (by decide) ((congrArg (Op.lookupswitch.offset _ _) s30_1086463900).trans (by decide +kernel)) (by decide) ?_
    refine x_aload_n HE 1 dX5_ruleNumber_136 rfl rfl ?_
    refine x_ldcS (k := 16) HE dX5_ruleNumber_137 (List.mem_of_getElem? (i := 23) rfl) (fun hp137 => ?_)
    refine x_callV (t := hT m27 s0) HE dX5_ruleNumber_139 rfl (fun l => k_J5_equals (u27_0.ext E27) l hw) (As := [rV (hF m27 0 17)]) (rest := []) rfl (Strg.xc (u27_0.ext E27)) rfl (lw_V q654 q655 q656 q136 q657) hy_J5_equals rfl rfl (Nat.le_of_ble_eq_true rfl) (Nat.le_of_ble_eq_true rfl) (Nat.le_of_ble_eq_true rfl) (kkI (fun r139 m139 E139 hw => ?_))
    have hw := hw E139
    refine x_if_eq HE 147 dX5_ruleNumber_142 (by decide) (fun c142 => ?_) (fun c142 => ?_)
    · have hw := hw.1 c142
      refine Wx.mask [true, false, true] (lo2 := [some (rV x0), none, some (iV (-1))]) rfl ?_
      exact w_X5_ruleNumber_147 HE hr f0 hw
    · have hw := hw.2 c142
      refine x_iconst HE dX5_ruleNumber_145 (by decide) ?_
      refine x_istore_n HE 2 (lo' := [some (rV x0), some (rV s0), some (iV 4)]) dX5_ruleNumber_146 rfl (Nat.le_of_ble_eq_true rfl) rfl ?_
      refine Wx.mask [true, false, true] (lo2 := [some (rV x0), none, some (iV 4)]) rfl ?_
      exact w_X5_ruleNumber_147 HE hr f0 hw
  have hw := hw.2
  have hw := hw ⟨s30_100913, s30_113114, s30_3377192, s30_93113560, s30_1086463900⟩
  refine x_lookup (off := 117) HE 147 dX5_ruleNumber_30 (by decide) (lsw_off (by simp only [List.mem_cons, List.not_mem_nil, or_false, forall_eq_or_imp, forall_eq]; exact ⟨s30_100913, s30_113114, s30_3377192, s30_93113560, s30_1086463900⟩)) (by decide) ?_
  refine Wx.mask [true, false, true] (lo2 := [some (rV x0), none, some (iV (-1))]) rfl ?_
  exact w_X5_ruleNumber_147 HE hr f0 hw
def g_X5_ruleNumber (x0 : Int) (Q : Int → Hp → Prop) (h : Hp) : Prop :=
  (hT h (hF h x0 2) = 18) ∧ ((((hF h (hF h x0 2) 0) ≠ 2) → (g_X5_ruleNumber_b23 x0 Q (hF h 0 1) h)) ∧ (((hF h (hF h x0 2) 0) = 2) → (g_X5_ruleNumber_b23 x0 Q (hF h (hF h x0 2) 3) h)))
theorem w_X5_ruleNumber_0 {G : GT} {X : ET} {h0 : Hp} {x0 : Int} (HE : XE G X cX5_ruleNumber 3 RX5 4 90 h0) (hr : XR X (some .int)) (f0 : hT h0 x0 = 20) {Q : Int → Hp → Prop} {h : Hp} (hw : g_X5_ruleNumber x0 Q h) : Wx G X h0 (QI Q) h 0 [some (rV x0), none, none] [] := by
  refine Wx.start (fun EB => ?_)
  unfold g_X5_ruleNumber at hw
  refine x_aload_n HE 0 dX5_ruleNumber_0 rfl rfl ?_
  refine x_gR HE dX5_ruleNumber_1 fd_X5_2 q575 (Or.inl rfl) (EB.tag f0 (by decide)) rfl ?_
  obtain ⟨v4, hw⟩ := hw
  refine x_gI HE dX5_ruleNumber_4 fd_X8_0 q367 (Or.inl rfl) v4 rfl ?_
  refine x_iconst HE dX5_ruleNumber_7 (by decide) ?_
  refine x_ic_ne HE 21 dX5_ruleNumber_8 (by decide) (fun c8 => ?_) (fun c8 => ?_)
  · have hw := hw.1 c8
    refine x_ldcS (k := 0) HE dX5_ruleNumber_21 (List.mem_of_getElem? (i := 1) rfl) (fun hp21 => ?_)
    exact w_X5_ruleNumber_23 HE hr f0 hw
  · have hw := hw.2 c8
    refine x_aload_n HE 0 dX5_ruleNumber_11 rfl rfl ?_
    refine x_gR HE dX5_ruleNumber_12 fd_X5_2 q575 (Or.inl rfl) (EB.tag f0 (by decide)) rfl ?_
    refine x_gR HE dX5_ruleNumber_15 fd_X8_3 q373 (Or.inl rfl) v4 rfl ?_
    refine x_goto HE 23 dX5_ruleNumber_18 (by decide) ?_
    exact w_X5_ruleNumber_23 HE hr f0 hw
theorem k_X5_ruleNumber {G : GT} {x0 : Int} {Q : Int → Hp → Prop} {h : Hp} (f0 : hT h x0 = 20) (l : Launch) (hw : g_X5_ruleNumber x0 Q h) : XM G l yX5_ruleNumber cX5_ruleNumber 3 (some .int) 4 90 [rV x0] (QI Q) h :=
  XM.of (by decide) (Nat.le_of_ble_eq_true rfl) (fun X HE hr hn => w_X5_ruleNumber_0 HE hr f0 hw)
def g_X1_ruleOf (x0 : Int) (Q : Int → Hp → Prop) (h : Hp) : Prop :=
  ((x0 = 0) → ((capOK h 0) ∧ (∀ (a32 : Int) (m32 : Hp), a32 = hN h → m32 = alloc h 28 0 0 → WFa h → (g_X13_init a32 (fun m36 => Ext m32 m36 → (Q a32 m36)) m32)))) ∧ ((x0 = 1) → ((capOK h 0) ∧ (∀ (a40 : Int) (m40 : Hp), a40 = hN h → m40 = alloc h 27 0 0 → WFa h → (g_X12_init a40 (fun m44 => Ext m40 m44 → (Q a40 m44)) m40)))) ∧ ((x0 = 2) → ((capOK h 0) ∧ (∀ (a48 : Int) (m48 : Hp), a48 = hN h → m48 = alloc h 29 0 0 → WFa h → (g_X14_init a48 (fun m52 => Ext m48 m52 → (Q a48 m52)) m48)))) ∧ ((x0 = 3) → ((capOK h 0) ∧ (∀ (a56 : Int) (m56 : Hp), a56 = hN h → m56 = alloc h 30 0 0 → WFa h → (g_X15_init a56 (fun m60 => Ext m56 m60 → (Q a56 m60)) m56)))) ∧ ((x0 ≠ 0 ∧ x0 ≠ 1 ∧ x0 ≠ 2 ∧ x0 ≠ 3) → ((capOK h 0) ∧ (∀ (a64 : Int) (m64 : Hp), a64 = hN h → m64 = alloc h 31 0 0 → WFa h → (g_X16_init a64 (fun m68 => Ext m64 m68 → (Q a64 m68)) m64))))
theorem w_X1_ruleOf_0 {G : GT} {X : ET} {h0 : Hp} {x0 : Int} (HE : XE G X cX1_ruleOf 1 RX1 4 80 h0) (hr : XR X (some (.object "NextAtBar$Rule"))) {Q : Int → Hp → Prop} {h : Hp} (hw : g_X1_ruleOf x0 Q h) : Wx G X h0 (QR Q) h 0 [some (iV x0)] [] := by
  refine Wx.start (fun EB => ?_)
  unfold g_X1_ruleOf at hw
  refine x_iload_n HE 0 dX1_ruleOf_0 rfl rfl ?_
  by_cases s1_0 : x0 = 0
  · have hw := hw.1 s1_0
    refine x_tabIn HE 32 dX1_ruleOf_1 0 s1_0 (by decide) rfl (by decide) ?_
    obtain ⟨v32, hw⟩ := hw
    refine x_newN HE dX1_ruleOf_32 xc28 (by decide) (nro (by decide)) q860 q861 q149 v32 (fun a32 m32 ea32 em32 E32 w32 => ?_)
    have hw := hw a32 m32 ea32 em32 w32
    have t32 := alloc_tag ea32 em32
    refine x_dup HE dX1_ruleOf_35 (fun o => o) ?_
    refine Wx.wf (fun wf36 => ?_)
    refine x_callIN HE dX1_ruleOf_36 rfl (fun l => k_X13_init t32 l hw) (As := []) (rest := [rV a32]) rfl (tag_pos wf36 t32 (by decide)) (List.mem_of_getElem? (i := 9) rfl) q149 q863 q864 rfl hy_X13_init.2 rfl rfl (Nat.le_of_ble_eq_true rfl) (Nat.le_of_ble_eq_true rfl) (Nat.le_of_ble_eq_true rfl) (kkV (fun m36 E36 hw => ?_))
    have hw := hw E36
    exact x_aret HE hr (Or.inl ⟨_, rfl⟩) dX1_ruleOf_39 hw
  have hw := hw.2
  by_cases s1_1 : x0 = 1
  · have hw := hw.1 s1_1
    refine x_tabIn HE 40 dX1_ruleOf_1 1 s1_1 (by decide) rfl (by decide) ?_
    obtain ⟨v40, hw⟩ := hw
    refine x_newN HE dX1_ruleOf_40 xc27 (by decide) (nro (by decide)) q873 q874 q148 v40 (fun a40 m40 ea40 em40 E40 w40 => ?_)
    have hw := hw a40 m40 ea40 em40 w40
    have t40 := alloc_tag ea40 em40
    refine x_dup HE dX1_ruleOf_43 (fun o => o) ?_
    refine Wx.wf (fun wf44 => ?_)
    refine x_callIN HE dX1_ruleOf_44 rfl (fun l => k_X12_init t40 l hw) (As := []) (rest := [rV a40]) rfl (tag_pos wf44 t40 (by decide)) (List.mem_of_getElem? (i := 12) rfl) q148 q866 q867 rfl hy_X12_init.2 rfl rfl (Nat.le_of_ble_eq_true rfl) (Nat.le_of_ble_eq_true rfl) (Nat.le_of_ble_eq_true rfl) (kkV (fun m44 E44 hw => ?_))
    have hw := hw E44
    exact x_aret HE hr (Or.inl ⟨_, rfl⟩) dX1_ruleOf_47 hw
  have hw := hw.2
  by_cases s1_2 : x0 = 2
  · have hw := hw.1 s1_2
    refine x_tabIn HE 48 dX1_ruleOf_1 2 s1_2 (by decide) rfl (by decide) ?_
    obtain ⟨v48, hw⟩ := hw
    refine x_newN HE dX1_ruleOf_48 xc29 (by decide) (nro (by decide)) q877 q878 q150 v48 (fun a48 m48 ea48 em48 E48 w48 => ?_)
    have hw := hw a48 m48 ea48 em48 w48
    have t48 := alloc_tag ea48 em48
    refine x_dup HE dX1_ruleOf_51 (fun o => o) ?_
    refine Wx.wf (fun wf52 => ?_)
    refine x_callIN HE dX1_ruleOf_52 rfl (fun l => k_X14_init t48 l hw) (As := []) (rest := [rV a48]) rfl (tag_pos wf52 t48 (by decide)) (List.mem_of_getElem? (i := 13) rfl) q150 q880 q881 rfl hy_X14_init.2 rfl rfl (Nat.le_of_ble_eq_true rfl) (Nat.le_of_ble_eq_true rfl) (Nat.le_of_ble_eq_true rfl) (kkV (fun m52 E52 hw => ?_))
    have hw := hw E52
    exact x_aret HE hr (Or.inl ⟨_, rfl⟩) dX1_ruleOf_55 hw
  have hw := hw.2
  by_cases s1_3 : x0 = 3
  · have hw := hw.1 s1_3
    refine x_tabIn HE 56 dX1_ruleOf_1 3 s1_3 (by decide) rfl (by decide) ?_
    obtain ⟨v56, hw⟩ := hw
    refine x_newN HE dX1_ruleOf_56 xc30 (by decide) (nro (by decide)) q884 q885 q151 v56 (fun a56 m56 ea56 em56 E56 w56 => ?_)
    have hw := hw a56 m56 ea56 em56 w56
    have t56 := alloc_tag ea56 em56
    refine x_dup HE dX1_ruleOf_59 (fun o => o) ?_
    refine Wx.wf (fun wf60 => ?_)
    refine x_callIN HE dX1_ruleOf_60 rfl (fun l => k_X15_init t56 l hw) (As := []) (rest := [rV a56]) rfl (tag_pos wf60 t56 (by decide)) (List.mem_of_getElem? (i := 15) rfl) q151 q887 q888 rfl hy_X15_init.2 rfl rfl (Nat.le_of_ble_eq_true rfl) (Nat.le_of_ble_eq_true rfl) (Nat.le_of_ble_eq_true rfl) (kkV (fun m60 E60 hw => ?_))
    have hw := hw E60
    exact x_aret HE hr (Or.inl ⟨_, rfl⟩) dX1_ruleOf_63 hw
  have hw := hw.2
  have hw := hw ⟨s1_0, s1_1, s1_2, s1_3⟩
  refine x_tabOut HE 64 dX1_ruleOf_1 (tabE (tabS (b := 4) (tabS (b := 3) (tabS (b := 2) (tabS (b := 1) (Int.lt_or_le x0 0) (by decide) s1_0) (by decide) s1_1) (by decide) s1_2) (by decide) s1_3) (by decide)) (by decide) ?_
  obtain ⟨v64, hw⟩ := hw
  refine x_newN HE dX1_ruleOf_64 xc31 (by decide) (nro (by decide)) q891 q892 q152 v64 (fun a64 m64 ea64 em64 E64 w64 => ?_)
  have hw := hw a64 m64 ea64 em64 w64
  have t64 := alloc_tag ea64 em64
  refine x_dup HE dX1_ruleOf_67 (fun o => o) ?_
  refine Wx.wf (fun wf68 => ?_)
  refine x_callIN HE dX1_ruleOf_68 rfl (fun l => k_X16_init t64 l hw) (As := []) (rest := [rV a64]) rfl (tag_pos wf68 t64 (by decide)) (List.mem_of_getElem? (i := 17) rfl) q152 q894 q895 rfl hy_X16_init.2 rfl rfl (Nat.le_of_ble_eq_true rfl) (Nat.le_of_ble_eq_true rfl) (Nat.le_of_ble_eq_true rfl) (kkV (fun m68 E68 hw => ?_))
  have hw := hw E68
  exact x_aret HE hr (Or.inl ⟨_, rfl⟩) dX1_ruleOf_71 hw
theorem k_X1_ruleOf {G : GT} {x0 : Int} {Q : Int → Hp → Prop} {h : Hp} (l : Launch) (hw : g_X1_ruleOf x0 Q h) : XM G l yX1_ruleOf cX1_ruleOf 1 (some (.object "NextAtBar$Rule")) 4 80 [iV x0] (QR Q) h :=
  XM.of (by decide) (Nat.le_of_ble_eq_true rfl) (fun X HE hr hn => w_X1_ruleOf_0 HE hr  hw)
def g_X5_staff_b156 (x0 : Int) (Q : Hp → Prop) (h : Hp) : Prop :=
  Q h
theorem w_X5_staff_156 {G : GT} {X : ET} {h0 : Hp} {x0 : Int} (HE : XE G X cX5_staff 2 RX5 10 259 h0) (hr : XR X none) (f0 : hT h0 x0 = 20) {Q : Hp → Prop} {h : Hp} (hw : g_X5_staff_b156 x0 Q  h) : Wx G X h0 (QV Q) h 156 [some (rV x0), none] [] := by
  refine Wx.start (fun EB => ?_)
  unfold g_X5_staff_b156 at hw
  exact x_vret HE hr dX5_staff_156 hw
def g_X5_staff_b97 (x0 : Int) (Q : Hp → Prop) (l1 s0 s1 s2 s3 : Int) (h : Hp) : Prop :=
  (Lay_X7 h (hF h x0 1)) ∧ ((i32 ((hF h (hF h x0 1) 0) - 1)) ∧ ((hT h s1 = 20) ∧ (g_X5_part s1 s2 s3 ((hF h (hF h x0 1) 0) - 1) (fun r106 m106 => Ext h m106 → ((hT m106 s0 = 16) ∧ (∀ m109 : Hp, m109 = setF m106 s0 4 r106 → (g_X5_part x0 (hF m109 0 21) 0 9 (fun r119 m119 => Ext m109 m119 → ((hT m119 l1 = 16) ∧ (∀ m122 : Hp, m122 = setF m119 l1 5 r119 → (g_X5_part x0 (hF m122 0 22) 1 2 (fun r131 m131 => Ext m122 m131 → (∀ m134 : Hp, m134 = setF m131 l1 6 r131 → (g_X5_isOver x0 (fun r138 m138 => Ext m134 m138 → (((r138 ≠ 0) → (g_X5_staff_b156 x0 Q m138)) ∧ ((r138 = 0) → ((Lay_X7 m138 (hF m138 x0 1)) ∧ (g_J2_add ((hF m138 x0 1) + 2) l1 (fun r152 m152 => Ext m138 m152 → (g_X5_staff_b156 x0 Q m152)) m138))))) m134))) m122)))) m109)))) h)))
theorem w_X5_staff_97 {G : GT} {X : ET} {h0 : Hp} {x0 : Int} (HE : XE G X cX5_staff 2 RX5 10 259 h0) (hr : XR X none) (f0 : hT h0 x0 = 20) {Q : Hp → Prop} {l1 s0 s1 s2 s3 : Int} {h : Hp} (hw : g_X5_staff_b97 x0 Q l1 s0 s1 s2 s3 h) : Wx G X h0 (QV Q) h 97 [some (rV x0), some (rV l1)] [iV s3, rV s2, rV s1, rV s0] := by
  refine Wx.start (fun EB => ?_)
  unfold g_X5_staff_b97 at hw
  refine x_aload_n HE 0 dX5_staff_97 rfl rfl ?_
  refine x_gR HE dX5_staff_98 fd_X5_1 q574 (Or.inl rfl) (EB.tag f0 (by decide)) rfl ?_
  obtain ⟨v101, hw⟩ := hw
  refine x_gI HE dX5_staff_101 fd_X7_0 q313 (Or.inl rfl) (Lay_X7.tag v101) rfl ?_
  refine x_iconst HE dX5_staff_104 (by decide) ?_
  obtain ⟨v105, hw⟩ := hw
  refine x_isub HE dX5_staff_105 v105 ?_
  obtain ⟨u106_0, hw⟩ := hw
  refine x_callV HE dX5_staff_106 rfl (fun l => k_X5_part u106_0 l hw) (As := [rV s2, iV s3, iV ((hF h (hF h x0 1) 0) - 1)]) (rest := [rV s0]) rfl xc20 u106_0 (lw_V q684 q686 qs7 q130 q687) hy_X5_part rfl rfl (Nat.le_of_ble_eq_true rfl) (Nat.le_of_ble_eq_true rfl) (Nat.le_of_ble_eq_true rfl) (kkI (fun r106 m106 E106 hw => ?_))
  have hw := hw E106
  obtain ⟨v109, hw⟩ := hw
  refine x_pI HE dX5_staff_109 fd_X10_4 q912 (Or.inl rfl) (Or.inl rfl) (nf_int _) v109 (nro (by decide)) (Or.inl nf_X10_4) (fun m109 em109 E109 => ?_)
  have hw := hw m109 em109
  refine x_aload_n HE 1 dX5_staff_112 rfl rfl ?_
  refine x_aload_n HE 0 dX5_staff_113 rfl rfl ?_
  refine x_ldcS (k := 20) HE dX5_staff_114 (List.mem_of_getElem? (i := 27) rfl) (fun hp114 => ?_)
  refine x_iconst HE dX5_staff_116 (by decide) ?_
  refine x_bipush HE dX5_staff_117 (by decide) ?_
  refine x_callV HE dX5_staff_119 rfl (fun l => k_X5_part ((EB.tr (E106.tr E109)).tag f0 (by decide)) l hw) (As := [rV (hF m109 0 21), iV 0, iV 9]) (rest := [rV l1]) rfl xc20 ((EB.tr (E106.tr E109)).tag f0 (by decide)) (lw_V q684 q686 qs7 q130 q687) hy_X5_part rfl rfl (Nat.le_of_ble_eq_true rfl) (Nat.le_of_ble_eq_true rfl) (Nat.le_of_ble_eq_true rfl) (kkI (fun r119 m119 E119 hw => ?_))
  have hw := hw E119
  obtain ⟨v122, hw⟩ := hw
  refine x_pI HE dX5_staff_122 fd_X10_5 q915 (Or.inl rfl) (Or.inl rfl) (nf_int _) v122 (nro (by decide)) (Or.inl nf_X10_5) (fun m122 em122 E122 => ?_)
  have hw := hw m122 em122
  refine x_aload_n HE 1 dX5_staff_125 rfl rfl ?_
  refine x_aload_n HE 0 dX5_staff_126 rfl rfl ?_
  refine x_ldcS (k := 21) HE dX5_staff_127 (List.mem_of_getElem? (i := 28) rfl) (fun hp127 => ?_)
  refine x_iconst HE dX5_staff_129 (by decide) ?_
  refine x_iconst HE dX5_staff_130 (by decide) ?_
  refine x_callV HE dX5_staff_131 rfl (fun l => k_X5_part ((EB.tr (E106.tr (E109.tr (E119.tr E122)))).tag f0 (by decide)) l hw) (As := [rV (hF m122 0 22), iV 1, iV 2]) (rest := [rV l1]) rfl xc20 ((EB.tr (E106.tr (E109.tr (E119.tr E122)))).tag f0 (by decide)) (lw_V q684 q686 qs7 q130 q687) hy_X5_part rfl rfl (Nat.le_of_ble_eq_true rfl) (Nat.le_of_ble_eq_true rfl) (Nat.le_of_ble_eq_true rfl) (kkI (fun r131 m131 E131 hw => ?_))
  have hw := hw E131
  refine x_pI HE dX5_staff_134 fd_X10_6 q918 (Or.inl rfl) (Or.inl rfl) (nf_int _) ((E122.tr E131).tag v122 (by decide)) (nro (by decide)) (Or.inl nf_X10_6) (fun m134 em134 E134 => ?_)
  have hw := hw m134 em134
  refine x_aload_n HE 0 dX5_staff_137 rfl rfl ?_
  refine x_callV HE dX5_staff_138 rfl (fun l => k_X5_isOver ((EB.tr (E106.tr (E109.tr (E119.tr (E122.tr (E131.tr E134)))))).tag f0 (by decide)) l hw) (As := []) (rest := []) rfl xc20 ((EB.tr (E106.tr (E109.tr (E119.tr (E122.tr (E131.tr E134)))))).tag f0 (by decide)) (lw_V q675 q677 qs5 q130 q678) hy_X5_isOver rfl rfl (Nat.le_of_ble_eq_true rfl) (Nat.le_of_ble_eq_true rfl) (Nat.le_of_ble_eq_true rfl) (kkI (fun r138 m138 E138 hw => ?_))
  have hw := hw E138
  refine x_if_ne HE 156 dX5_staff_141 (by decide) (fun c141 => ?_) (fun c141 => ?_)
  · have hw := hw.1 c141
    refine Wx.mask [true, false] (lo2 := [some (rV x0), none]) rfl ?_
    exact w_X5_staff_156 HE hr f0 hw
  · have hw := hw.2 c141
    refine x_aload_n HE 0 dX5_staff_144 rfl rfl ?_
    refine x_gR HE dX5_staff_145 fd_X5_1 q574 (Or.inl rfl) ((EB.tr (E106.tr (E109.tr (E119.tr (E122.tr (E131.tr (E134.tr E138))))))).tag f0 (by decide)) rfl ?_
    obtain ⟨v148, hw⟩ := hw
    refine x_gR HE dX5_staff_148 fd_X7_4 q325 (Or.inl rfl) (Lay_X7.tag v148) (Lay_X7_4 v148).1 ?_
    refine x_aload_n HE 1 dX5_staff_151 rfl rfl ?_
    refine x_callV HE dX5_staff_152 rfl (fun l => k_J2_add ((Lay_X7_4 v148).2) l hw) (As := [rV l1]) (rest := []) rfl xc32 ((Lay_X7_4 v148).2) (lw_V q783 q784 q785 q128 q786) hy_J2_add rfl rfl (Nat.le_of_ble_eq_true rfl) (Nat.le_of_ble_eq_true rfl) (Nat.le_of_ble_eq_true rfl) (kkI (fun r152 m152 E152 hw => ?_))
    have hw := hw E152
    refine x_pop HE dX5_staff_155 (fun o => o) ?_
    refine Wx.mask [true, false] (lo2 := [some (rV x0), none]) rfl ?_
    exact w_X5_staff_156 HE hr f0 hw
def g_X5_staff (x0 : Int) (Q : Hp → Prop) (h : Hp) : Prop :=
  (Lay_X7 h (hF h x0 1)) ∧ (g_J2_size ((hF h x0 1) + 2) (fun r8 m8 => Ext h m8 → (g_X5_begins x0 r8 3 (fun m12 => Ext m8 m12 → ((capOK m12 7) ∧ (∀ (a15 : Int) (m15 : Hp), a15 = hN m12 → m15 = alloc m12 16 0 7 → WFa m12 → (g_X5_fresh x0 (fun r20 m20 => Ext m15 m20 → (g_X5_ruleNumber x0 (fun r24 m24 => Ext m20 m24 → (g_X1_ruleOf r24 (fun r27 m27 => Ext m24 m27 → (g_X10_init a15 r20 r27 (fun m30 => Ext m27 m30 → (g_X5_on x0 (fun m35 => Ext m30 m35 → ((Lay_X7 m35 (hF m35 x0 1)) ∧ ((i32 ((hF m35 (hF m35 x0 1) 0) - 1)) ∧ (g_X5_part x0 (hF m35 0 18) 0 ((hF m35 (hF m35 x0 1) 0) - 1) (fun r52 m52 => Ext m35 m52 → (∀ m55 : Hp, m55 = setF m52 a15 2 r52 → ((Lay_X7 m55 (hF m55 x0 1)) ∧ ((i32 ((hF m55 (hF m55 x0 1) 0) - 1)) ∧ (g_X5_part x0 (hF m55 0 19) 0 ((hF m55 (hF m55 x0 1) 0) - 1) (fun r72 m72 => Ext m55 m72 → (∀ m75 : Hp, m75 = setF m72 a15 3 r72 → (g_X5_isOver x0 (fun r83 m83 => Ext m75 m83 → (((r83 = 0) → (g_X5_staff_b97 x0 Q a15 a15 x0 (hF m75 0 20) (hF m83 a15 3) m83)) ∧ ((r83 ≠ 0) → (g_X5_staff_b97 x0 Q a15 a15 x0 (hF m75 0 20) 0 m83)))) m75))) m55))))) m35)))) m30)) m27)) m24)) m20)) m15)))) m8)) h)
theorem w_X5_staff_0 {G : GT} {X : ET} {h0 : Hp} {x0 : Int} (HE : XE G X cX5_staff 2 RX5 10 259 h0) (hr : XR X none) (f0 : hT h0 x0 = 20) {Q : Hp → Prop} {h : Hp} (hw : g_X5_staff x0 Q h) : Wx G X h0 (QV Q) h 0 [some (rV x0), none] [] := by
  refine Wx.start (fun EB => ?_)
  unfold g_X5_staff at hw
  refine x_aload_n HE 0 dX5_staff_0 rfl rfl ?_
  refine x_aload_n HE 0 dX5_staff_1 rfl rfl ?_
  refine x_gR HE dX5_staff_2 fd_X5_1 q574 (Or.inl rfl) (EB.tag f0 (by decide)) rfl ?_
  obtain ⟨v5, hw⟩ := hw
  refine x_gR HE dX5_staff_5 fd_X7_4 q325 (Or.inl rfl) (Lay_X7.tag v5) (Lay_X7_4 v5).1 ?_
  refine x_callV HE dX5_staff_8 rfl (fun l => k_J2_size ((Lay_X7_4 v5).2) l hw) (As := []) (rest := [rV x0]) rfl xc32 ((Lay_X7_4 v5).2) (lw_V q707 q708 q709 q128 q710) hy_J2_size rfl rfl (Nat.le_of_ble_eq_true rfl) (Nat.le_of_ble_eq_true rfl) (Nat.le_of_ble_eq_true rfl) (kkI (fun r8 m8 E8 hw => ?_))
  have hw := hw E8
  refine x_iconst HE dX5_staff_11 (by decide) ?_
  refine x_callV HE dX5_staff_12 rfl (fun l => k_X5_begins ((EB.tr E8).tag f0 (by decide)) l hw) (As := [iV r8, iV 3]) (rest := []) rfl xc20 ((EB.tr E8).tag f0 (by decide)) (lw_V q711 q713 qs11 q130 q714) hy_X5_begins rfl rfl (Nat.le_of_ble_eq_true rfl) (Nat.le_of_ble_eq_true rfl) (Nat.le_of_ble_eq_true rfl) (kkV (fun m12 E12 hw => ?_))
  have hw := hw E12
  obtain ⟨v15, hw⟩ := hw
  refine x_newN HE dX5_staff_15 xc16 (by decide) (nro (by decide)) q846 q847 q146 v15 (fun a15 m15 ea15 em15 E15 w15 => ?_)
  have hw := hw a15 m15 ea15 em15 w15
  have t15 := alloc_tag ea15 em15
  refine x_dup HE dX5_staff_18 (fun o => o) ?_
  refine x_aload_n HE 0 dX5_staff_19 rfl rfl ?_
  refine x_callV HE dX5_staff_20 rfl (fun l => k_X5_fresh ((EB.tr (E8.tr (E12.tr E15))).tag f0 (by decide)) l hw) (As := []) (rest := [rV a15, rV a15]) rfl xc20 ((EB.tr (E8.tr (E12.tr E15))).tag f0 (by decide)) (lw_V q715 q717 qs12 q130 q718) hy_X5_fresh rfl rfl (Nat.le_of_ble_eq_true rfl) (Nat.le_of_ble_eq_true rfl) (Nat.le_of_ble_eq_true rfl) (kkR (fun r20 m20 E20 hw => ?_))
  have hw := hw E20
  refine x_aload_n HE 0 dX5_staff_23 rfl rfl ?_
  refine x_callV HE dX5_staff_24 rfl (fun l => k_X5_ruleNumber ((EB.tr (E8.tr (E12.tr (E15.tr E20)))).tag f0 (by decide)) l hw) (As := []) (rest := [rV r20, rV a15, rV a15]) rfl xc20 ((EB.tr (E8.tr (E12.tr (E15.tr E20)))).tag f0 (by decide)) (lw_V q848 q850 qs17 q130 q851) hy_X5_ruleNumber rfl rfl (Nat.le_of_ble_eq_true rfl) (Nat.le_of_ble_eq_true rfl) (Nat.le_of_ble_eq_true rfl) (kkI (fun r24 m24 E24 hw => ?_))
  have hw := hw E24
  refine x_callSN HE dX5_staff_27 rfl (fun l => k_X1_ruleOf  l hw) (As := [iV r24]) (rest := [rV r20, rV a15, rV a15]) rfl (List.mem_of_getElem? (i := 8) rfl) q123 q858 q859 hy_X1_ruleOf.2 rfl rfl (Nat.le_of_ble_eq_true rfl) (Nat.le_of_ble_eq_true rfl) (Nat.le_of_ble_eq_true rfl) (kkR (fun r27 m27 E27 hw => ?_))
  have hw := hw E27
  refine Wx.wf (fun wf30 => ?_)
  refine x_callI HE dX5_staff_30 rfl (fun l => k_X10_init ((E20.tr (E24.tr E27)).tag t15 (by decide)) l hw) (As := [rV r20, rV r27]) (rest := [rV a15]) rfl (tag_pos wf30 ((E20.tr (E24.tr E27)).tag t15 (by decide)) (by decide)) q898 q146 q899 q900 rfl hy_X10_init.2 rfl rfl (Nat.le_of_ble_eq_true rfl) (Nat.le_of_ble_eq_true rfl) (Nat.le_of_ble_eq_true rfl) (kkV (fun m30 E30 hw => ?_))
  have hw := hw E30
  refine x_astore_n HE 1 (lo' := [some (rV x0), some (rV a15)]) dX5_staff_33 rfl (Nat.le_of_ble_eq_true rfl) rfl ?_
  refine x_aload_n HE 0 dX5_staff_34 rfl rfl ?_
  refine x_callV HE dX5_staff_35 rfl (fun l => k_X5_on ((EB.tr (E8.tr (E12.tr (E15.tr (E20.tr (E24.tr (E27.tr E30))))))).tag f0 (by decide)) l hw) (As := []) (rest := []) rfl xc20 ((EB.tr (E8.tr (E12.tr (E15.tr (E20.tr (E24.tr (E27.tr E30))))))).tag f0 (by decide)) (lw_V q679 q681 qs6 q130 q682) hy_X5_on rfl rfl (Nat.le_of_ble_eq_true rfl) (Nat.le_of_ble_eq_true rfl) (Nat.le_of_ble_eq_true rfl) (kkV (fun m35 E35 hw => ?_))
  have hw := hw E35
  refine x_aload_n HE 1 dX5_staff_38 rfl rfl ?_
  refine x_aload_n HE 0 dX5_staff_39 rfl rfl ?_
  refine x_ldcS (k := 17) HE dX5_staff_40 (List.mem_of_getElem? (i := 24) rfl) (fun hp40 => ?_)
  refine x_iconst HE dX5_staff_42 (by decide) ?_
  refine x_aload_n HE 0 dX5_staff_43 rfl rfl ?_
  refine x_gR HE dX5_staff_44 fd_X5_1 q574 (Or.inl rfl) ((EB.tr (E8.tr (E12.tr (E15.tr (E20.tr (E24.tr (E27.tr (E30.tr E35)))))))).tag f0 (by decide)) rfl ?_
  obtain ⟨v47, hw⟩ := hw
  refine x_gI HE dX5_staff_47 fd_X7_0 q313 (Or.inl rfl) (Lay_X7.tag v47) rfl ?_
  refine x_iconst HE dX5_staff_50 (by decide) ?_
  obtain ⟨v51, hw⟩ := hw
  refine x_isub HE dX5_staff_51 v51 ?_
  refine x_callV HE dX5_staff_52 rfl (fun l => k_X5_part ((EB.tr (E8.tr (E12.tr (E15.tr (E20.tr (E24.tr (E27.tr (E30.tr E35)))))))).tag f0 (by decide)) l hw) (As := [rV (hF m35 0 18), iV 0, iV ((hF m35 (hF m35 x0 1) 0) - 1)]) (rest := [rV a15]) rfl xc20 ((EB.tr (E8.tr (E12.tr (E15.tr (E20.tr (E24.tr (E27.tr (E30.tr E35)))))))).tag f0 (by decide)) (lw_V q684 q686 qs7 q130 q687) hy_X5_part rfl rfl (Nat.le_of_ble_eq_true rfl) (Nat.le_of_ble_eq_true rfl) (Nat.le_of_ble_eq_true rfl) (kkI (fun r52 m52 E52 hw => ?_))
  have hw := hw E52
  refine x_pI HE dX5_staff_55 fd_X10_2 q907 (Or.inl rfl) (Or.inl rfl) (nf_int _) ((E20.tr (E24.tr (E27.tr (E30.tr (E35.tr E52))))).tag t15 (by decide)) (nro (by decide)) (Or.inl nf_X10_2) (fun m55 em55 E55 => ?_)
  have hw := hw m55 em55
  refine x_aload_n HE 1 dX5_staff_58 rfl rfl ?_
  refine x_aload_n HE 0 dX5_staff_59 rfl rfl ?_
  refine x_ldcS (k := 18) HE dX5_staff_60 (List.mem_of_getElem? (i := 25) rfl) (fun hp60 => ?_)
  refine x_iconst HE dX5_staff_62 (by decide) ?_
  refine x_aload_n HE 0 dX5_staff_63 rfl rfl ?_
  refine x_gR HE dX5_staff_64 fd_X5_1 q574 (Or.inl rfl) ((EB.tr (E8.tr (E12.tr (E15.tr (E20.tr (E24.tr (E27.tr (E30.tr (E35.tr (E52.tr E55)))))))))).tag f0 (by decide)) rfl ?_
  obtain ⟨v67, hw⟩ := hw
  refine x_gI HE dX5_staff_67 fd_X7_0 q313 (Or.inl rfl) (Lay_X7.tag v67) rfl ?_
  refine x_iconst HE dX5_staff_70 (by decide) ?_
  obtain ⟨v71, hw⟩ := hw
  refine x_isub HE dX5_staff_71 v71 ?_
  refine x_callV HE dX5_staff_72 rfl (fun l => k_X5_part ((EB.tr (E8.tr (E12.tr (E15.tr (E20.tr (E24.tr (E27.tr (E30.tr (E35.tr (E52.tr E55)))))))))).tag f0 (by decide)) l hw) (As := [rV (hF m55 0 19), iV 0, iV ((hF m55 (hF m55 x0 1) 0) - 1)]) (rest := [rV a15]) rfl xc20 ((EB.tr (E8.tr (E12.tr (E15.tr (E20.tr (E24.tr (E27.tr (E30.tr (E35.tr (E52.tr E55)))))))))).tag f0 (by decide)) (lw_V q684 q686 qs7 q130 q687) hy_X5_part rfl rfl (Nat.le_of_ble_eq_true rfl) (Nat.le_of_ble_eq_true rfl) (Nat.le_of_ble_eq_true rfl) (kkI (fun r72 m72 E72 hw => ?_))
  have hw := hw E72
  refine x_pI HE dX5_staff_75 fd_X10_3 q910 (Or.inl rfl) (Or.inl rfl) (nf_int _) ((E20.tr (E24.tr (E27.tr (E30.tr (E35.tr (E52.tr (E55.tr E72))))))).tag t15 (by decide)) (nro (by decide)) (Or.inl nf_X10_3) (fun m75 em75 E75 => ?_)
  have hw := hw m75 em75
  refine x_aload_n HE 1 dX5_staff_78 rfl rfl ?_
  refine x_aload_n HE 0 dX5_staff_79 rfl rfl ?_
  refine x_ldcS (k := 19) HE dX5_staff_80 (List.mem_of_getElem? (i := 26) rfl) (fun hp80 => ?_)
  refine x_aload_n HE 0 dX5_staff_82 rfl rfl ?_
  refine x_callV HE dX5_staff_83 rfl (fun l => k_X5_isOver ((EB.tr (E8.tr (E12.tr (E15.tr (E20.tr (E24.tr (E27.tr (E30.tr (E35.tr (E52.tr (E55.tr (E72.tr E75)))))))))))).tag f0 (by decide)) l hw) (As := []) (rest := [rV (hF m75 0 20), rV x0, rV a15]) rfl xc20 ((EB.tr (E8.tr (E12.tr (E15.tr (E20.tr (E24.tr (E27.tr (E30.tr (E35.tr (E52.tr (E55.tr (E72.tr E75)))))))))))).tag f0 (by decide)) (lw_V q675 q677 qs5 q130 q678) hy_X5_isOver rfl rfl (Nat.le_of_ble_eq_true rfl) (Nat.le_of_ble_eq_true rfl) (Nat.le_of_ble_eq_true rfl) (kkI (fun r83 m83 E83 hw => ?_))
  have hw := hw E83
  refine x_if_eq HE 93 dX5_staff_86 (by decide) (fun c86 => ?_) (fun c86 => ?_)
  · have hw := hw.1 c86
    refine x_aload_n HE 1 dX5_staff_93 rfl rfl ?_
    refine x_gI HE dX5_staff_94 fd_X10_3 q910 (Or.inl rfl) ((E20.tr (E24.tr (E27.tr (E30.tr (E35.tr (E52.tr (E55.tr (E72.tr (E75.tr E83))))))))).tag t15 (by decide)) rfl ?_
    exact w_X5_staff_97 HE hr f0 hw
  · have hw := hw.2 c86
    refine x_iconst HE dX5_staff_89 (by decide) ?_
    refine x_goto HE 97 dX5_staff_90 (by decide) ?_
    exact w_X5_staff_97 HE hr f0 hw
theorem k_X5_staff {G : GT} {x0 : Int} {Q : Hp → Prop} {h : Hp} (f0 : hT h x0 = 20) (l : Launch) (hw : g_X5_staff x0 Q h) : XM G l yX5_staff cX5_staff 2 none 10 259 [rV x0] (QV Q) h :=
  XM.of (by decide) (Nat.le_of_ble_eq_true rfl) (fun X HE hr hn => w_X5_staff_0 HE hr f0 hw)
def g_X1_mannerOf (x0 x1 : Int) (Q : Int → Hp → Prop) (h : Hp) : Prop :=
  ((x0 = 0) → ((capOK h 1) ∧ (∀ (a28 : Int) (m28 : Hp), a28 = hN h → m28 = alloc h 23 0 1 → WFa h → (g_X2_init a28 0 (fun m33 => Ext m28 m33 → (Q a28 m33)) m28)))) ∧ ((x0 = 1) → ((capOK h 1) ∧ (∀ (a37 : Int) (m37 : Hp), a37 = hN h → m37 = alloc h 24 0 1 → WFa h → (g_X3_init a37 x1 (fun m42 => Ext m37 m42 → (Q a37 m42)) m37)))) ∧ ((x0 = 2) → ((capOK h 1) ∧ (∀ (a46 : Int) (m46 : Hp), a46 = hN h → m46 = alloc h 25 0 1 → WFa h → (g_X18_init a46 x1 (fun m51 => Ext m46 m51 → (Q a46 m51)) m46)))) ∧ ((x0 ≠ 0 ∧ x0 ≠ 1 ∧ x0 ≠ 2) → ((capOK h 1) ∧ (∀ (a55 : Int) (m55 : Hp), a55 = hN h → m55 = alloc h 26 0 1 → WFa h → (g_X19_init a55 (fun m59 => Ext m55 m59 → (Q a55 m59)) m55))))
theorem w_X1_mannerOf_0 {G : GT} {X : ET} {h0 : Hp} {x0 x1 : Int} (HE : XE G X cX1_mannerOf 2 RX1 3 62 h0) (hr : XR X (some (.object "NextAtBar$Manne\x72"))) {Q : Int → Hp → Prop} {h : Hp} (hw : g_X1_mannerOf x0 x1 Q h) : Wx G X h0 (QR Q) h 0 [some (iV x0), some (iV x1)] [] := by
  refine Wx.start (fun EB => ?_)
  unfold g_X1_mannerOf at hw
  refine x_iload_n HE 0 dX1_mannerOf_0 rfl rfl ?_
  by_cases s1_0 : x0 = 0
  · have hw := hw.1 s1_0
    refine x_tabIn HE 28 dX1_mannerOf_1 0 s1_0 (by decide) rfl (by decide) ?_
    obtain ⟨v28, hw⟩ := hw
    refine x_newN HE dX1_mannerOf_28 xc23 (by decide) (nro (by decide)) q172 q173 q124 v28 (fun a28 m28 ea28 em28 E28 w28 => ?_)
    have hw := hw a28 m28 ea28 em28 w28
    have t28 := alloc_tag ea28 em28
    refine x_dup HE dX1_mannerOf_31 (fun o => o) ?_
    refine x_iconst HE dX1_mannerOf_32 (by decide) ?_
    refine Wx.wf (fun wf33 => ?_)
    refine x_callI HE dX1_mannerOf_33 rfl (fun l => k_X2_init t28 l hw) (As := [iV 0]) (rest := [rV a28]) rfl (tag_pos wf33 t28 (by decide)) q174 q124 q175 q176 rfl hy_X2_init.2 rfl rfl (Nat.le_of_ble_eq_true rfl) (Nat.le_of_ble_eq_true rfl) (Nat.le_of_ble_eq_true rfl) (kkV (fun m33 E33 hw => ?_))
    have hw := hw E33
    exact x_aret HE hr (Or.inl ⟨_, rfl⟩) dX1_mannerOf_36 hw
  have hw := hw.2
  by_cases s1_1 : x0 = 1
  · have hw := hw.1 s1_1
    refine x_tabIn HE 37 dX1_mannerOf_1 1 s1_1 (by decide) rfl (by decide) ?_
    obtain ⟨v37, hw⟩ := hw
    refine x_newN HE dX1_mannerOf_37 xc24 (by decide) (nro (by decide)) q188 q189 q125 v37 (fun a37 m37 ea37 em37 E37 w37 => ?_)
    have hw := hw a37 m37 ea37 em37 w37
    have t37 := alloc_tag ea37 em37
    refine x_dup HE dX1_mannerOf_40 (fun o => o) ?_
    refine x_iload_n HE 1 dX1_mannerOf_41 rfl rfl ?_
    refine Wx.wf (fun wf42 => ?_)
    refine x_callI HE dX1_mannerOf_42 rfl (fun l => k_X3_init t37 l hw) (As := [iV x1]) (rest := [rV a37]) rfl (tag_pos wf42 t37 (by decide)) q190 q125 q191 q192 rfl hy_X3_init.2 rfl rfl (Nat.le_of_ble_eq_true rfl) (Nat.le_of_ble_eq_true rfl) (Nat.le_of_ble_eq_true rfl) (kkV (fun m42 E42 hw => ?_))
    have hw := hw E42
    exact x_aret HE hr (Or.inl ⟨_, rfl⟩) dX1_mannerOf_45 hw
  have hw := hw.2
  by_cases s1_2 : x0 = 2
  · have hw := hw.1 s1_2
    refine x_tabIn HE 46 dX1_mannerOf_1 2 s1_2 (by decide) rfl (by decide) ?_
    obtain ⟨v46, hw⟩ := hw
    refine x_newN HE dX1_mannerOf_46 xc25 (by decide) (nro (by decide)) q956 q957 q154 v46 (fun a46 m46 ea46 em46 E46 w46 => ?_)
    have hw := hw a46 m46 ea46 em46 w46
    have t46 := alloc_tag ea46 em46
    refine x_dup HE dX1_mannerOf_49 (fun o => o) ?_
    refine x_iload_n HE 1 dX1_mannerOf_50 rfl rfl ?_
    refine Wx.wf (fun wf51 => ?_)
    refine x_callI HE dX1_mannerOf_51 rfl (fun l => k_X18_init t46 l hw) (As := [iV x1]) (rest := [rV a46]) rfl (tag_pos wf51 t46 (by decide)) q958 q154 q959 q960 rfl hy_X18_init.2 rfl rfl (Nat.le_of_ble_eq_true rfl) (Nat.le_of_ble_eq_true rfl) (Nat.le_of_ble_eq_true rfl) (kkV (fun m51 E51 hw => ?_))
    have hw := hw E51
    exact x_aret HE hr (Or.inl ⟨_, rfl⟩) dX1_mannerOf_54 hw
  have hw := hw.2
  have hw := hw ⟨s1_0, s1_1, s1_2⟩
  refine x_tabOut HE 55 dX1_mannerOf_1 (tabE (tabS (b := 3) (tabS (b := 2) (tabS (b := 1) (Int.lt_or_le x0 0) (by decide) s1_0) (by decide) s1_1) (by decide) s1_2) (by decide)) (by decide) ?_
  obtain ⟨v55, hw⟩ := hw
  refine x_newN HE dX1_mannerOf_55 xc26 (by decide) (nro (by decide)) q964 q965 q155 v55 (fun a55 m55 ea55 em55 E55 w55 => ?_)
  have hw := hw a55 m55 ea55 em55 w55
  have t55 := alloc_tag ea55 em55
  refine x_dup HE dX1_mannerOf_58 (fun o => o) ?_
  refine Wx.wf (fun wf59 => ?_)
  refine x_callI HE dX1_mannerOf_59 rfl (fun l => k_X19_init t55 l hw) (As := []) (rest := [rV a55]) rfl (tag_pos wf59 t55 (by decide)) q966 q155 q967 q968 rfl hy_X19_init.2 rfl rfl (Nat.le_of_ble_eq_true rfl) (Nat.le_of_ble_eq_true rfl) (Nat.le_of_ble_eq_true rfl) (kkV (fun m59 E59 hw => ?_))
  have hw := hw E59
  exact x_aret HE hr (Or.inl ⟨_, rfl⟩) dX1_mannerOf_62 hw
theorem k_X1_mannerOf {G : GT} {x0 x1 : Int} {Q : Int → Hp → Prop} {h : Hp} (l : Launch) (hw : g_X1_mannerOf x0 x1 Q h) : XM G l yX1_mannerOf cX1_mannerOf 2 (some (.object "NextAtBar$Manne\x72")) 3 62 [iV x0, iV x1] (QR Q) h :=
  XM.of (by decide) (Nat.le_of_ble_eq_true rfl) (fun X HE hr hn => w_X1_mannerOf_0 HE hr  hw)
def g_X5_manner_b102 (x0 : Int) (Q : Int → Hp → Prop) (s0 s1 : Int) (h : Hp) : Prop :=
  g_X1_mannerOf s0 s1 (fun r102 m102 => Ext h m102 → (Q r102 m102)) h
theorem w_X5_manner_102 {G : GT} {X : ET} {h0 : Hp} {x0 : Int} (HE : XE G X cX5_manner 2 RX5 9 236 h0) (hr : XR X (some (.object "NextAtBar$Manne\x72"))) (f0 : hT h0 x0 = 20) {Q : Int → Hp → Prop} {s0 s1 : Int} {h : Hp} (hw : g_X5_manner_b102 x0 Q s0 s1 h) : Wx G X h0 (QR Q) h 102 [some (rV x0), none] [iV s1, iV s0] := by
  refine Wx.start (fun EB => ?_)
  unfold g_X5_manner_b102 at hw
  refine x_callSN HE dX5_manner_102 rfl (fun l => k_X1_mannerOf  l hw) (As := [iV s0, iV s1]) (rest := []) rfl (List.mem_of_getElem? (i := 19) rfl) q123 q954 q955 hy_X1_mannerOf.2 rfl rfl (Nat.le_of_ble_eq_true rfl) (Nat.le_of_ble_eq_true rfl) (Nat.le_of_ble_eq_true rfl) (kkR (fun r102 m102 E102 hw => ?_))
  have hw := hw E102
  exact x_aret HE hr (Or.inl ⟨_, rfl⟩) dX5_manner_105 hw
def g_X5_manner_b91 (x0 : Int) (Q : Int → Hp → Prop) (s0 : Int) (h : Hp) : Prop :=
  g_X5_whole x0 1 99 (fun r95 m95 => Ext h m95 → (g_X5_manner_b102 x0 Q s0 r95 m95)) h
theorem w_X5_manner_91 {G : GT} {X : ET} {h0 : Hp} {x0 : Int} (HE : XE G X cX5_manner 2 RX5 9 236 h0) (hr : XR X (some (.object "NextAtBar$Manne\x72"))) (f0 : hT h0 x0 = 20) {Q : Int → Hp → Prop} {s0 : Int} {h : Hp} (hw : g_X5_manner_b91 x0 Q s0 h) : Wx G X h0 (QR Q) h 91 [some (rV x0), none] [iV s0] := by
  refine Wx.start (fun EB => ?_)
  unfold g_X5_manner_b91 at hw
  refine x_aload_n HE 0 dX5_manner_91 rfl rfl ?_
  refine x_iconst HE dX5_manner_92 (by decide) ?_
  refine x_bipush HE dX5_manner_93 (by decide) ?_
  refine x_callV HE dX5_manner_95 rfl (fun l => k_X5_whole (EB.tag f0 (by decide)) l hw) (As := [iV 1, iV 99]) (rest := [iV s0]) rfl xc20 (EB.tag f0 (by decide)) (lw_V q697 q699 qs9 q130 q700) hy_X5_whole rfl rfl (Nat.le_of_ble_eq_true rfl) (Nat.le_of_ble_eq_true rfl) (Nat.le_of_ble_eq_true rfl) (kkI (fun r95 m95 E95 hw => ?_))
  have hw := hw E95
  refine x_goto HE 102 dX5_manner_98 (by decide) ?_
  exact w_X5_manner_102 HE hr f0 hw
def g_X5_manner_b76 (x0 : Int) (Q : Int → Hp → Prop) (l1 : Int) (h : Hp) : Prop :=
  g_X5_on x0 (fun m77 => Ext h m77 → (((l1 = 1) → (g_X5_manner_b91 x0 Q l1 m77)) ∧ ((l1 ≠ 1) → (((l1 ≠ 2) → (g_X5_manner_b102 x0 Q l1 0 m77)) ∧ ((l1 = 2) → (g_X5_manner_b91 x0 Q l1 m77)))))) h
theorem w_X5_manner_76 {G : GT} {X : ET} {h0 : Hp} {x0 : Int} (HE : XE G X cX5_manner 2 RX5 9 236 h0) (hr : XR X (some (.object "NextAtBar$Manne\x72"))) (f0 : hT h0 x0 = 20) {Q : Int → Hp → Prop} {l1 : Int} {h : Hp} (hw : g_X5_manner_b76 x0 Q l1 h) : Wx G X h0 (QR Q) h 76 [some (rV x0), some (iV l1)] [] := by
  refine Wx.start (fun EB => ?_)
  unfold g_X5_manner_b76 at hw
  refine x_aload_n HE 0 dX5_manner_76 rfl rfl ?_
  refine x_callV HE dX5_manner_77 rfl (fun l => k_X5_on (EB.tag f0 (by decide)) l hw) (As := []) (rest := []) rfl xc20 (EB.tag f0 (by decide)) (lw_V q679 q681 qs6 q130 q682) hy_X5_on rfl rfl (Nat.le_of_ble_eq_true rfl) (Nat.le_of_ble_eq_true rfl) (Nat.le_of_ble_eq_true rfl) (kkV (fun m77 E77 hw => ?_))
  have hw := hw E77
  refine x_iload_n HE 1 dX5_manner_80 rfl rfl ?_
  refine x_iload_n HE 1 dX5_manner_81 rfl rfl ?_
  refine x_iconst HE dX5_manner_82 (by decide) ?_
  refine x_ic_eq HE 91 dX5_manner_83 (by decide) (fun c83 => ?_) (fun c83 => ?_)
  · have hw := hw.1 c83
    refine Wx.mask [true, false] (lo2 := [some (rV x0), none]) rfl ?_
    exact w_X5_manner_91 HE hr f0 hw
  · have hw := hw.2 c83
    refine x_iload_n HE 1 dX5_manner_86 rfl rfl ?_
    refine x_iconst HE dX5_manner_87 (by decide) ?_
    refine x_ic_ne HE 101 dX5_manner_88 (by decide) (fun c88 => ?_) (fun c88 => ?_)
    · have hw := hw.1 c88
      refine x_iconst HE dX5_manner_101 (by decide) ?_
      refine Wx.mask [true, false] (lo2 := [some (rV x0), none]) rfl ?_
      exact w_X5_manner_102 HE hr f0 hw
    · have hw := hw.2 c88
      refine Wx.mask [true, false] (lo2 := [some (rV x0), none]) rfl ?_
      exact w_X5_manner_91 HE hr f0 hw
def g_X5_manner_b65 (x0 : Int) (Q : Int → Hp → Prop) (s0 : Int) (h : Hp) : Prop :=
  ((s0 ≠ (-1)) → (g_X5_manner_b76 x0 Q s0 h)) ∧ ((s0 = (-1)) → (g_X5_wrong x0 1 (fun m73 => Ext h m73 → (g_X5_manner_b76 x0 Q s0 m73)) h))
theorem w_X5_manner_65 {G : GT} {X : ET} {h0 : Hp} {x0 : Int} (HE : XE G X cX5_manner 2 RX5 9 236 h0) (hr : XR X (some (.object "NextAtBar$Manne\x72"))) (f0 : hT h0 x0 = 20) {Q : Int → Hp → Prop} {s0 : Int} {h : Hp} (hw : g_X5_manner_b65 x0 Q s0 h) : Wx G X h0 (QR Q) h 65 [some (rV x0), none] [iV s0] := by
  refine Wx.start (fun EB => ?_)
  unfold g_X5_manner_b65 at hw
  refine x_istore_n HE 1 (lo' := [some (rV x0), some (iV s0)]) dX5_manner_65 rfl (Nat.le_of_ble_eq_true rfl) rfl ?_
  refine x_iload_n HE 1 dX5_manner_66 rfl rfl ?_
  refine x_iconst HE dX5_manner_67 (by decide) ?_
  refine x_ic_ne HE 76 dX5_manner_68 (by decide) (fun c68 => ?_) (fun c68 => ?_)
  · have hw := hw.1 c68
    exact w_X5_manner_76 HE hr f0 hw
  · have hw := hw.2 c68
    refine x_aload_n HE 0 dX5_manner_71 rfl rfl ?_
    refine x_iconst HE dX5_manner_72 (by decide) ?_
    refine x_callV HE dX5_manner_73 rfl (fun l => k_X5_wrong (EB.tag f0 (by decide)) l hw) (As := [iV 1]) (rest := []) rfl xc20 (EB.tag f0 (by decide)) (lw_V q671 q673 qs4 q130 q674) hy_X5_wrong rfl rfl (Nat.le_of_ble_eq_true rfl) (Nat.le_of_ble_eq_true rfl) (Nat.le_of_ble_eq_true rfl) (kkV (fun m73 E73 hw => ?_))
    have hw := hw E73
    exact w_X5_manner_76 HE hr f0 hw
def g_X5_manner (x0 : Int) (Q : Int → Hp → Prop) (h : Hp) : Prop :=
  (hT h (hF h x0 2) = 18) ∧ (g_X8_is (hF h x0 2) (hF h 0 23) (fun r6 m6 => Ext h m6 → (((r6 = 0) → ((hT m6 (hF m6 x0 2) = 18) ∧ (g_X8_is (hF m6 x0 2) (hF m6 0 24) (fun r22 m22 => Ext m6 m22 → (((r22 = 0) → ((hT m22 (hF m22 x0 2) = 18) ∧ (g_X8_is (hF m22 x0 2) (hF m22 0 25) (fun r38 m38 => Ext m22 m38 → (((r38 = 0) → ((hT m38 (hF m38 x0 2) = 18) ∧ (g_X8_is (hF m38 x0 2) (hF m38 0 17) (fun r54 m54 => Ext m38 m54 → (((r54 = 0) → (g_X5_manner_b65 x0 Q (-1) m54)) ∧ ((r54 ≠ 0) → (g_X5_manner_b65 x0 Q 3 m54)))) m38))) ∧ ((r38 ≠ 0) → (g_X5_manner_b65 x0 Q 2 m38)))) m22))) ∧ ((r22 ≠ 0) → (g_X5_manner_b65 x0 Q 1 m22)))) m6))) ∧ ((r6 ≠ 0) → (g_X5_manner_b65 x0 Q 0 m6)))) h)
theorem w_X5_manner_0 {G : GT} {X : ET} {h0 : Hp} {x0 : Int} (HE : XE G X cX5_manner 2 RX5 9 236 h0) (hr : XR X (some (.object "NextAtBar$Manne\x72"))) (f0 : hT h0 x0 = 20) {Q : Int → Hp → Prop} {h : Hp} (hw : g_X5_manner x0 Q h) : Wx G X h0 (QR Q) h 0 [some (rV x0), none] [] := by
  refine Wx.start (fun EB => ?_)
  unfold g_X5_manner at hw
  refine x_aload_n HE 0 dX5_manner_0 rfl rfl ?_
  refine x_gR HE dX5_manner_1 fd_X5_2 q575 (Or.inl rfl) (EB.tag f0 (by decide)) rfl ?_
  refine x_ldcS (k := 22) HE dX5_manner_4 (List.mem_of_getElem? (i := 29) rfl) (fun hp4 => ?_)
  obtain ⟨u6_0, hw⟩ := hw
  refine x_callV HE dX5_manner_6 rfl (fun l => k_X8_is u6_0 l hw) (As := [rV (hF h 0 23)]) (rest := []) rfl xc18 u6_0 (lw_V q692 q693 q694 q133 q695) hy_X8_is rfl rfl (Nat.le_of_ble_eq_true rfl) (Nat.le_of_ble_eq_true rfl) (Nat.le_of_ble_eq_true rfl) (kkI (fun r6 m6 E6 hw => ?_))
  have hw := hw E6
  refine x_if_eq HE 16 dX5_manner_9 (by decide) (fun c9 => ?_) (fun c9 => ?_)
  · have hw := hw.1 c9
    refine x_aload_n HE 0 dX5_manner_16 rfl rfl ?_
    refine x_gR HE dX5_manner_17 fd_X5_2 q575 (Or.inl rfl) ((EB.tr E6).tag f0 (by decide)) rfl ?_
    refine x_ldcS (k := 23) HE dX5_manner_20 (List.mem_of_getElem? (i := 30) rfl) (fun hp20 => ?_)
    obtain ⟨u22_0, hw⟩ := hw
    refine x_callV HE dX5_manner_22 rfl (fun l => k_X8_is u22_0 l hw) (As := [rV (hF m6 0 24)]) (rest := []) rfl xc18 u22_0 (lw_V q692 q693 q694 q133 q695) hy_X8_is rfl rfl (Nat.le_of_ble_eq_true rfl) (Nat.le_of_ble_eq_true rfl) (Nat.le_of_ble_eq_true rfl) (kkI (fun r22 m22 E22 hw => ?_))
    have hw := hw E22
    refine x_if_eq HE 32 dX5_manner_25 (by decide) (fun c25 => ?_) (fun c25 => ?_)
    · have hw := hw.1 c25
      refine x_aload_n HE 0 dX5_manner_32 rfl rfl ?_
      refine x_gR HE dX5_manner_33 fd_X5_2 q575 (Or.inl rfl) ((EB.tr (E6.tr E22)).tag f0 (by decide)) rfl ?_
      refine x_ldcS (k := 24) HE dX5_manner_36 (List.mem_of_getElem? (i := 31) rfl) (fun hp36 => ?_)
      obtain ⟨u38_0, hw⟩ := hw
      refine x_callV HE dX5_manner_38 rfl (fun l => k_X8_is u38_0 l hw) (As := [rV (hF m22 0 25)]) (rest := []) rfl xc18 u38_0 (lw_V q692 q693 q694 q133 q695) hy_X8_is rfl rfl (Nat.le_of_ble_eq_true rfl) (Nat.le_of_ble_eq_true rfl) (Nat.le_of_ble_eq_true rfl) (kkI (fun r38 m38 E38 hw => ?_))
      have hw := hw E38
      refine x_if_eq HE 48 dX5_manner_41 (by decide) (fun c41 => ?_) (fun c41 => ?_)
      · have hw := hw.1 c41
        refine x_aload_n HE 0 dX5_manner_48 rfl rfl ?_
        refine x_gR HE dX5_manner_49 fd_X5_2 q575 (Or.inl rfl) ((EB.tr (E6.tr (E22.tr E38))).tag f0 (by decide)) rfl ?_
        refine x_ldcS (k := 16) HE dX5_manner_52 (List.mem_of_getElem? (i := 23) rfl) (fun hp52 => ?_)
        obtain ⟨u54_0, hw⟩ := hw
        refine x_callV HE dX5_manner_54 rfl (fun l => k_X8_is u54_0 l hw) (As := [rV (hF m38 0 17)]) (rest := []) rfl xc18 u54_0 (lw_V q692 q693 q694 q133 q695) hy_X8_is rfl rfl (Nat.le_of_ble_eq_true rfl) (Nat.le_of_ble_eq_true rfl) (Nat.le_of_ble_eq_true rfl) (kkI (fun r54 m54 E54 hw => ?_))
        have hw := hw E54
        refine x_if_eq HE 64 dX5_manner_57 (by decide) (fun c57 => ?_) (fun c57 => ?_)
        · have hw := hw.1 c57
          refine x_iconst HE dX5_manner_64 (by decide) ?_
          exact w_X5_manner_65 HE hr f0 hw
        · have hw := hw.2 c57
          refine x_iconst HE dX5_manner_60 (by decide) ?_
          refine x_goto HE 65 dX5_manner_61 (by decide) ?_
          exact w_X5_manner_65 HE hr f0 hw
      · have hw := hw.2 c41
        refine x_iconst HE dX5_manner_44 (by decide) ?_
        refine x_goto HE 65 dX5_manner_45 (by decide) ?_
        exact w_X5_manner_65 HE hr f0 hw
    · have hw := hw.2 c25
      refine x_iconst HE dX5_manner_28 (by decide) ?_
      refine x_goto HE 65 dX5_manner_29 (by decide) ?_
      exact w_X5_manner_65 HE hr f0 hw
  · have hw := hw.2 c9
    refine x_iconst HE dX5_manner_12 (by decide) ?_
    refine x_goto HE 65 dX5_manner_13 (by decide) ?_
    exact w_X5_manner_65 HE hr f0 hw
theorem k_X5_manner {G : GT} {x0 : Int} {Q : Int → Hp → Prop} {h : Hp} (f0 : hT h x0 = 20) (l : Launch) (hw : g_X5_manner x0 Q h) : XM G l yX5_manner cX5_manner 2 (some (.object "NextAtBar$Manne\x72")) 9 236 [rV x0] (QR Q) h :=
  XM.of (by decide) (Nat.le_of_ble_eq_true rfl) (fun X HE hr hn => w_X5_manner_0 HE hr f0 hw)
def g_X5_known_b37 (x0 x1 : Int) (Q : Int → Hp → Prop) (s0 : Int) (h : Hp) : Prop :=
  Q s0 h
theorem w_X5_known_37 {G : GT} {X : ET} {h0 : Hp} {x0 x1 : Int} (HE : XE G X cX5_known 2 RX5 5 112 h0) (hr : XR X (some .int)) (f0 : hT h0 x0 = 20) {Q : Int → Hp → Prop} {s0 : Int} {h : Hp} (hw : g_X5_known_b37 x0 x1 Q s0 h) : Wx G X h0 (QI Q) h 37 [some (rV x0), some (iV x1)] [iV s0] := by
  refine Wx.start (fun EB => ?_)
  unfold g_X5_known_b37 at hw
  exact x_iret HE hr dX5_known_37 hw
def g_X5_known_b25 (x0 x1 : Int) (Q : Int → Hp → Prop) (h : Hp) : Prop :=
  g_X5_isOver x0 (fun r26 m26 => Ext h m26 → (((r26 = 0) → (g_X5_known_b37 x0 x1 Q x1 m26)) ∧ ((r26 ≠ 0) → (g_X5_known_b37 x0 x1 Q 0 m26)))) h
theorem w_X5_known_25 {G : GT} {X : ET} {h0 : Hp} {x0 x1 : Int} (HE : XE G X cX5_known 2 RX5 5 112 h0) (hr : XR X (some .int)) (f0 : hT h0 x0 = 20) {Q : Int → Hp → Prop} {h : Hp} (hw : g_X5_known_b25 x0 x1 Q  h) : Wx G X h0 (QI Q) h 25 [some (rV x0), some (iV x1)] [] := by
  refine Wx.start (fun EB => ?_)
  unfold g_X5_known_b25 at hw
  refine x_aload_n HE 0 dX5_known_25 rfl rfl ?_
  refine x_callV HE dX5_known_26 rfl (fun l => k_X5_isOver (EB.tag f0 (by decide)) l hw) (As := []) (rest := []) rfl xc20 (EB.tag f0 (by decide)) (lw_V q675 q677 qs5 q130 q678) hy_X5_isOver rfl rfl (Nat.le_of_ble_eq_true rfl) (Nat.le_of_ble_eq_true rfl) (Nat.le_of_ble_eq_true rfl) (kkI (fun r26 m26 E26 hw => ?_))
  have hw := hw E26
  refine x_if_eq HE 36 dX5_known_29 (by decide) (fun c29 => ?_) (fun c29 => ?_)
  · have hw := hw.1 c29
    refine x_iload_n HE 1 dX5_known_36 rfl rfl ?_
    exact w_X5_known_37 HE hr f0 hw
  · have hw := hw.2 c29
    refine x_iconst HE dX5_known_32 (by decide) ?_
    refine x_goto HE 37 dX5_known_33 (by decide) ?_
    exact w_X5_known_37 HE hr f0 hw
def g_X5_known_b15 (x0 x1 : Int) (Q : Int → Hp → Prop) (h : Hp) : Prop :=
  ((x1 ≠ (-1)) → (g_X5_known_b25 x0 x1 Q h)) ∧ ((x1 = (-1)) → (g_X5_wrong x0 2 (fun m22 => Ext h m22 → (g_X5_known_b25 x0 x1 Q m22)) h))
theorem w_X5_known_15 {G : GT} {X : ET} {h0 : Hp} {x0 x1 : Int} (HE : XE G X cX5_known 2 RX5 5 112 h0) (hr : XR X (some .int)) (f0 : hT h0 x0 = 20) {Q : Int → Hp → Prop} {h : Hp} (hw : g_X5_known_b15 x0 x1 Q  h) : Wx G X h0 (QI Q) h 15 [some (rV x0), some (iV x1)] [] := by
  refine Wx.start (fun EB => ?_)
  unfold g_X5_known_b15 at hw
  refine x_iload_n HE 1 dX5_known_15 rfl rfl ?_
  refine x_iconst HE dX5_known_16 (by decide) ?_
  refine x_ic_ne HE 25 dX5_known_17 (by decide) (fun c17 => ?_) (fun c17 => ?_)
  · have hw := hw.1 c17
    exact w_X5_known_25 HE hr f0 hw
  · have hw := hw.2 c17
    refine x_aload_n HE 0 dX5_known_20 rfl rfl ?_
    refine x_iconst HE dX5_known_21 (by decide) ?_
    refine x_callV HE dX5_known_22 rfl (fun l => k_X5_wrong (EB.tag f0 (by decide)) l hw) (As := [iV 2]) (rest := []) rfl xc20 (EB.tag f0 (by decide)) (lw_V q671 q673 qs4 q130 q674) hy_X5_wrong rfl rfl (Nat.le_of_ble_eq_true rfl) (Nat.le_of_ble_eq_true rfl) (Nat.le_of_ble_eq_true rfl) (kkV (fun m22 E22 hw => ?_))
    have hw := hw E22
    exact w_X5_known_25 HE hr f0 hw
def g_X5_known (x0 x1 : Int) (Q : Int → Hp → Prop) (h : Hp) : Prop :=
  (hT h (hF h x0 2) = 18) ∧ (g_X8_isName (hF h x0 2) (fun r4 m4 => Ext h m4 → (((r4 ≠ 0) → (g_X5_known_b15 x0 x1 Q m4)) ∧ ((r4 = 0) → (g_X5_wrong x0 1 (fun m12 => Ext m4 m12 → (g_X5_known_b15 x0 x1 Q m12)) m4)))) h)
theorem w_X5_known_0 {G : GT} {X : ET} {h0 : Hp} {x0 x1 : Int} (HE : XE G X cX5_known 2 RX5 5 112 h0) (hr : XR X (some .int)) (f0 : hT h0 x0 = 20) {Q : Int → Hp → Prop} {h : Hp} (hw : g_X5_known x0 x1 Q h) : Wx G X h0 (QI Q) h 0 [some (rV x0), some (iV x1)] [] := by
  refine Wx.start (fun EB => ?_)
  unfold g_X5_known at hw
  refine x_aload_n HE 0 dX5_known_0 rfl rfl ?_
  refine x_gR HE dX5_known_1 fd_X5_2 q575 (Or.inl rfl) (EB.tag f0 (by decide)) rfl ?_
  obtain ⟨u4_0, hw⟩ := hw
  refine x_callV HE dX5_known_4 rfl (fun l => k_X8_isName u4_0 l hw) (As := []) (rest := []) rfl xc18 u4_0 (lw_V q719 q720 q721 q133 q722) hy_X8_isName rfl rfl (Nat.le_of_ble_eq_true rfl) (Nat.le_of_ble_eq_true rfl) (Nat.le_of_ble_eq_true rfl) (kkI (fun r4 m4 E4 hw => ?_))
  have hw := hw E4
  refine x_if_ne HE 15 dX5_known_7 (by decide) (fun c7 => ?_) (fun c7 => ?_)
  · have hw := hw.1 c7
    exact w_X5_known_15 HE hr f0 hw
  · have hw := hw.2 c7
    refine x_aload_n HE 0 dX5_known_10 rfl rfl ?_
    refine x_iconst HE dX5_known_11 (by decide) ?_
    refine x_callV HE dX5_known_12 rfl (fun l => k_X5_wrong ((EB.tr E4).tag f0 (by decide)) l hw) (As := [iV 1]) (rest := []) rfl xc20 ((EB.tr E4).tag f0 (by decide)) (lw_V q671 q673 qs4 q130 q674) hy_X5_wrong rfl rfl (Nat.le_of_ble_eq_true rfl) (Nat.le_of_ble_eq_true rfl) (Nat.le_of_ble_eq_true rfl) (kkV (fun m12 E12 hw => ?_))
    have hw := hw E12
    exact w_X5_known_15 HE hr f0 hw
theorem k_X5_known {G : GT} {x0 x1 : Int} {Q : Int → Hp → Prop} {h : Hp} (f0 : hT h x0 = 20) (l : Launch) (hw : g_X5_known x0 x1 Q h) : XM G l yX5_known cX5_known 2 (some .int) 5 112 [rV x0, iV x1] (QI Q) h :=
  XM.of (by decide) (Nat.le_of_ble_eq_true rfl) (fun X HE hr hn => w_X5_known_0 HE hr f0 hw)
def g_X8_isSign_b21 (x0 x1 : Int) (Q : Int → Hp → Prop) (s0 : Int) (h : Hp) : Prop :=
  (s0 = 0 ∨ s0 = 1) ∧ Q s0 h
theorem w_X8_isSign_21 {G : GT} {X : ET} {h0 : Hp} {x0 x1 : Int} (HE : XE G X cX8_isSign 2 RX8 0 0 h0) (hr : XR X (some .boolean)) (f0 : hT h0 x0 = 18) {Q : Int → Hp → Prop} {s0 : Int} {h : Hp} (hw : g_X8_isSign_b21 x0 x1 Q s0 h) : Wx G X h0 (QI Q) h 21 [some (rV x0), some (iV x1)] [iV s0] := by
  refine Wx.start (fun EB => ?_)
  unfold g_X8_isSign_b21 at hw
  exact x_zret HE hr dX8_isSign_21 hw.1 hw.2
def g_X8_isSign_b20 (x0 x1 : Int) (Q : Int → Hp → Prop) (h : Hp) : Prop :=
  g_X8_isSign_b21 x0 x1 Q 0 h
theorem w_X8_isSign_20 {G : GT} {X : ET} {h0 : Hp} {x0 x1 : Int} (HE : XE G X cX8_isSign 2 RX8 0 0 h0) (hr : XR X (some .boolean)) (f0 : hT h0 x0 = 18) {Q : Int → Hp → Prop} {h : Hp} (hw : g_X8_isSign_b20 x0 x1 Q  h) : Wx G X h0 (QI Q) h 20 [some (rV x0), some (iV x1)] [] := by
  refine Wx.start (fun EB => ?_)
  unfold g_X8_isSign_b20 at hw
  refine x_iconst HE dX8_isSign_20 (by decide) ?_
  exact w_X8_isSign_21 HE hr f0 hw
def g_X8_isSign (x0 x1 : Int) (Q : Int → Hp → Prop) (h : Hp) : Prop :=
  (((hF h x0 0) ≠ 4) → (g_X8_isSign_b20 x0 x1 Q h)) ∧ (((hF h x0 0) = 4) → ((((hF h x0 2) ≠ x1) → (g_X8_isSign_b20 x0 x1 Q h)) ∧ (((hF h x0 2) = x1) → (g_X8_isSign_b21 x0 x1 Q 1 h))))
theorem w_X8_isSign_0 {G : GT} {X : ET} {h0 : Hp} {x0 x1 : Int} (HE : XE G X cX8_isSign 2 RX8 0 0 h0) (hr : XR X (some .boolean)) (f0 : hT h0 x0 = 18) {Q : Int → Hp → Prop} {h : Hp} (hw : g_X8_isSign x0 x1 Q h) : Wx G X h0 (QI Q) h 0 [some (rV x0), some (iV x1)] [] := by
  refine Wx.start (fun EB => ?_)
  unfold g_X8_isSign at hw
  refine x_aload_n HE 0 dX8_isSign_0 rfl rfl ?_
  refine x_gI HE dX8_isSign_1 fd_X8_0 q366 (Or.inl rfl) (EB.tag f0 (by decide)) rfl ?_
  refine x_iconst HE dX8_isSign_4 (by decide) ?_
  refine x_ic_ne HE 20 dX8_isSign_5 (by decide) (fun c5 => ?_) (fun c5 => ?_)
  · have hw := hw.1 c5
    exact w_X8_isSign_20 HE hr f0 hw
  · have hw := hw.2 c5
    refine x_aload_n HE 0 dX8_isSign_8 rfl rfl ?_
    refine x_gI HE dX8_isSign_9 fd_X8_2 q370 (Or.inl rfl) (EB.tag f0 (by decide)) rfl ?_
    refine x_iload_n HE 1 dX8_isSign_12 rfl rfl ?_
    refine x_ic_ne HE 20 dX8_isSign_13 (by decide) (fun c13 => ?_) (fun c13 => ?_)
    · have hw := hw.1 c13
      exact w_X8_isSign_20 HE hr f0 hw
    · have hw := hw.2 c13
      refine x_iconst HE dX8_isSign_16 (by decide) ?_
      refine x_goto HE 21 dX8_isSign_17 (by decide) ?_
      exact w_X8_isSign_21 HE hr f0 hw
theorem k_X8_isSign {G : GT} {x0 x1 : Int} {Q : Int → Hp → Prop} {h : Hp} (f0 : hT h x0 = 18) (l : Launch) (hw : g_X8_isSign x0 x1 Q h) : XM G l yX8_isSign cX8_isSign 2 (some .boolean) 0 0 [rV x0, iV x1] (QI Q) h :=
  XM.of (by decide) (Nat.le_of_ble_eq_true rfl) (fun X HE hr hn => w_X8_isSign_0 HE hr f0 hw)
def g_X5_eatsSign_b18 (x0 x1 : Int) (Q : Int → Hp → Prop) (h : Hp) : Prop :=
  Q 0 h
theorem w_X5_eatsSign_18 {G : GT} {X : ET} {h0 : Hp} {x0 x1 : Int} (HE : XE G X cX5_eatsSign 2 RX5 8 213 h0) (hr : XR X (some .boolean)) (f0 : hT h0 x0 = 20) {Q : Int → Hp → Prop} {h : Hp} (hw : g_X5_eatsSign_b18 x0 x1 Q  h) : Wx G X h0 (QI Q) h 18 [some (rV x0), some (iV x1)] [] := by
  refine Wx.start (fun EB => ?_)
  unfold g_X5_eatsSign_b18 at hw
  refine x_iconst HE dX5_eatsSign_18 (by decide) ?_
  exact x_zret HE hr dX5_eatsSign_19 (by decide) hw
def g_X5_eatsSign (x0 x1 : Int) (Q : Int → Hp → Prop) (h : Hp) : Prop :=
  g_X5_isOver x0 (fun r1 m1 => Ext h m1 → (((r1 ≠ 0) → (g_X5_eatsSign_b18 x0 x1 Q m1)) ∧ ((r1 = 0) → ((hT m1 (hF m1 x0 2) = 18) ∧ (g_X8_isSign (hF m1 x0 2) x1 (fun r12 m12 => Ext m1 m12 → (((r12 ≠ 0) → (g_X5_on x0 (fun m21 => Ext m12 m21 → (Q 1 m21)) m12)) ∧ ((r12 = 0) → (g_X5_eatsSign_b18 x0 x1 Q m12)))) m1))))) h
theorem w_X5_eatsSign_0 {G : GT} {X : ET} {h0 : Hp} {x0 x1 : Int} (HE : XE G X cX5_eatsSign 2 RX5 8 213 h0) (hr : XR X (some .boolean)) (f0 : hT h0 x0 = 20) {Q : Int → Hp → Prop} {h : Hp} (hw : g_X5_eatsSign x0 x1 Q h) : Wx G X h0 (QI Q) h 0 [some (rV x0), some (iV x1)] [] := by
  refine Wx.start (fun EB => ?_)
  unfold g_X5_eatsSign at hw
  refine x_aload_n HE 0 dX5_eatsSign_0 rfl rfl ?_
  refine x_callV HE dX5_eatsSign_1 rfl (fun l => k_X5_isOver (EB.tag f0 (by decide)) l hw) (As := []) (rest := []) rfl xc20 (EB.tag f0 (by decide)) (lw_V q675 q677 qs5 q130 q678) hy_X5_isOver rfl rfl (Nat.le_of_ble_eq_true rfl) (Nat.le_of_ble_eq_true rfl) (Nat.le_of_ble_eq_true rfl) (kkI (fun r1 m1 E1 hw => ?_))
  have hw := hw E1
  refine x_if_ne HE 18 dX5_eatsSign_4 (by decide) (fun c4 => ?_) (fun c4 => ?_)
  · have hw := hw.1 c4
    exact w_X5_eatsSign_18 HE hr f0 hw
  · have hw := hw.2 c4
    refine x_aload_n HE 0 dX5_eatsSign_7 rfl rfl ?_
    refine x_gR HE dX5_eatsSign_8 fd_X5_2 q575 (Or.inl rfl) ((EB.tr E1).tag f0 (by decide)) rfl ?_
    refine x_iload_n HE 1 dX5_eatsSign_11 rfl rfl ?_
    obtain ⟨u12_0, hw⟩ := hw
    refine x_callV HE dX5_eatsSign_12 rfl (fun l => k_X8_isSign u12_0 l hw) (As := [iV x1]) (rest := []) rfl xc18 u12_0 (lw_V q1033 q1034 q1035 q133 q1036) hy_X8_isSign rfl rfl (Nat.le_of_ble_eq_true rfl) (Nat.le_of_ble_eq_true rfl) (Nat.le_of_ble_eq_true rfl) (kkI (fun r12 m12 E12 hw => ?_))
    have hw := hw E12
    refine x_if_ne HE 20 dX5_eatsSign_15 (by decide) (fun c15 => ?_) (fun c15 => ?_)
    · have hw := hw.1 c15
      refine x_aload_n HE 0 dX5_eatsSign_20 rfl rfl ?_
      refine x_callV HE dX5_eatsSign_21 rfl (fun l => k_X5_on ((EB.tr (E1.tr E12)).tag f0 (by decide)) l hw) (As := []) (rest := []) rfl xc20 ((EB.tr (E1.tr E12)).tag f0 (by decide)) (lw_V q679 q681 qs6 q130 q682) hy_X5_on rfl rfl (Nat.le_of_ble_eq_true rfl) (Nat.le_of_ble_eq_true rfl) (Nat.le_of_ble_eq_true rfl) (kkV (fun m21 E21 hw => ?_))
      have hw := hw E21
      refine x_iconst HE dX5_eatsSign_24 (by decide) ?_
      exact x_zret HE hr dX5_eatsSign_25 (by decide) hw
    · have hw := hw.2 c15
      exact w_X5_eatsSign_18 HE hr f0 hw
theorem k_X5_eatsSign {G : GT} {x0 x1 : Int} {Q : Int → Hp → Prop} {h : Hp} (f0 : hT h x0 = 20) (l : Launch) (hw : g_X5_eatsSign x0 x1 Q h) : XM G l yX5_eatsSign cX5_eatsSign 2 (some .boolean) 8 213 [rV x0, iV x1] (QI Q) h :=
  XM.of (by decide) (Nat.le_of_ble_eq_true rfl) (fun X HE hr hn => w_X5_eatsSign_0 HE hr f0 hw)
def g_X5_personLine_b199 (x0 : Int) (Q : Hp → Prop) (l1 : Int) (h : Hp) : Prop :=
  (Lay_X7 h (hF h x0 1)) ∧ (g_J2_add ((hF h x0 1) + 3) l1 (fun r207 m207 => Ext h m207 → (Q m207)) h)
theorem w_X5_personLine_199 {G : GT} {X : ET} {h0 : Hp} {x0 : Int} (HE : XE G X cX5_personLine 5 RX5 10 259 h0) (hr : XR X none) (f0 : hT h0 x0 = 20) {Q : Hp → Prop} {l1 : Int} {h : Hp} (hw : g_X5_personLine_b199 x0 Q l1 h) : Wx G X h0 (QV Q) h 199 [some (rV x0), some (rV l1), none, none, none] [] := by
  refine Wx.start (fun EB => ?_)
  unfold g_X5_personLine_b199 at hw
  refine x_aload_n HE 0 dX5_personLine_199 rfl rfl ?_
  refine x_gR HE dX5_personLine_200 fd_X5_1 q574 (Or.inl rfl) (EB.tag f0 (by decide)) rfl ?_
  obtain ⟨v203, hw⟩ := hw
  refine x_gR HE dX5_personLine_203 fd_X7_5 q330 (Or.inl rfl) (Lay_X7.tag v203) (Lay_X7_5 v203).1 ?_
  refine x_aload_n HE 1 dX5_personLine_206 rfl rfl ?_
  refine x_callV HE dX5_personLine_207 rfl (fun l => k_J2_add ((Lay_X7_5 v203).2) l hw) (As := [rV l1]) (rest := []) rfl xc32 ((Lay_X7_5 v203).2) (lw_V q783 q784 q785 q128 q786) hy_J2_add rfl rfl (Nat.le_of_ble_eq_true rfl) (Nat.le_of_ble_eq_true rfl) (Nat.le_of_ble_eq_true rfl) (kkI (fun r207 m207 E207 hw => ?_))
  have hw := hw E207
  refine x_pop HE dX5_personLine_210 (fun o => o) ?_
  exact x_vret HE hr dX5_personLine_211 hw
def g_X5_personLine_b178 (x0 : Int) (Q : Hp → Prop) (h : Hp) : Prop :=
  Q h
theorem w_X5_personLine_178 {G : GT} {X : ET} {h0 : Hp} {x0 : Int} (HE : XE G X cX5_personLine 5 RX5 10 259 h0) (hr : XR X none) (f0 : hT h0 x0 = 20) {Q : Hp → Prop} {h : Hp} (hw : g_X5_personLine_b178 x0 Q  h) : Wx G X h0 (QV Q) h 178 [some (rV x0), none, none, none, none] [] := by
  refine Wx.start (fun EB => ?_)
  unfold g_X5_personLine_b178 at hw
  exact x_vret HE hr dX5_personLine_178 hw
def g_X5_personLine_b158 (x0 : Int) (Q : Hp → Prop) (K108 : Int → Int → Hp → Prop) (l1 l2 l3 : Int) (h : Hp) : Prop :=
  g_X5_on x0 (fun m159 => Ext h m159 → (g_X5_whole x0 1 9 (fun r166 m166 => Ext m159 m166 → (g_X5_isOver x0 (fun r172 m172 => Ext m166 m172 → (((r172 = 0) → ((Lay_X17 m172 l1) ∧ (((0 : Int) ≤ l3 ∧ l3 < 5) ∧ (∀ m186 : Hp, m186 = setA m172 (l1 + 1) l3 r166 → ((i32 (l2 + 1)) ∧ (∀ y187 : Int, y187 = l2 + 1 → (g_X5_eatsSign x0 44 (fun r193 m193 => Ext m186 m193 → (((r193 ≠ 0) → (K108 l1 y187 m193)) ∧ ((r193 = 0) → (g_X5_personLine_b199 x0 Q l1 m193)))) m186))))))) ∧ ((r172 ≠ 0) → (g_X5_personLine_b178 x0 Q m172)))) m166)) m159)) h
theorem w_X5_personLine_158 {G : GT} {X : ET} {h0 : Hp} {x0 : Int} (HE : XE G X cX5_personLine 5 RX5 10 259 h0) (hr : XR X none) (f0 : hT h0 x0 = 20) {Q : Hp → Prop} {K108 : Int → Int → Hp → Prop} (hK108 : ∀ (l1 l2 : Int) (h : Hp), K108 l1 l2 h → Wx G X h0 (QV Q) h 108 [some (rV x0), some (rV l1), some (iV l2), none, none] []) {l1 l2 l3 : Int} {h : Hp} (hw : g_X5_personLine_b158 x0 Q K108 l1 l2 l3 h) : Wx G X h0 (QV Q) h 158 [some (rV x0), some (rV l1), some (iV l2), some (iV l3), none] [] := by
  refine Wx.start (fun EB => ?_)
  unfold g_X5_personLine_b158 at hw
  refine x_aload_n HE 0 dX5_personLine_158 rfl rfl ?_
  refine x_callV HE dX5_personLine_159 rfl (fun l => k_X5_on (EB.tag f0 (by decide)) l hw) (As := []) (rest := []) rfl xc20 (EB.tag f0 (by decide)) (lw_V q679 q681 qs6 q130 q682) hy_X5_on rfl rfl (Nat.le_of_ble_eq_true rfl) (Nat.le_of_ble_eq_true rfl) (Nat.le_of_ble_eq_true rfl) (kkV (fun m159 E159 hw => ?_))
  have hw := hw E159
  refine x_aload_n HE 0 dX5_personLine_162 rfl rfl ?_
  refine x_iconst HE dX5_personLine_163 (by decide) ?_
  refine x_bipush HE dX5_personLine_164 (by decide) ?_
  refine x_callV HE dX5_personLine_166 rfl (fun l => k_X5_whole ((EB.tr E159).tag f0 (by decide)) l hw) (As := [iV 1, iV 9]) (rest := []) rfl xc20 ((EB.tr E159).tag f0 (by decide)) (lw_V q697 q699 qs9 q130 q700) hy_X5_whole rfl rfl (Nat.le_of_ble_eq_true rfl) (Nat.le_of_ble_eq_true rfl) (Nat.le_of_ble_eq_true rfl) (kkI (fun r166 m166 E166 hw => ?_))
  have hw := hw E166
  refine x_istore HE (lo' := [some (rV x0), some (rV l1), some (iV l2), some (iV l3), some (iV r166)]) dX5_personLine_169 (Nat.le_of_ble_eq_true rfl) rfl ?_
  refine x_aload_n HE 0 dX5_personLine_171 rfl rfl ?_
  refine x_callV HE dX5_personLine_172 rfl (fun l => k_X5_isOver ((EB.tr (E159.tr E166)).tag f0 (by decide)) l hw) (As := []) (rest := []) rfl xc20 ((EB.tr (E159.tr E166)).tag f0 (by decide)) (lw_V q675 q677 qs5 q130 q678) hy_X5_isOver rfl rfl (Nat.le_of_ble_eq_true rfl) (Nat.le_of_ble_eq_true rfl) (Nat.le_of_ble_eq_true rfl) (kkI (fun r172 m172 E172 hw => ?_))
  have hw := hw E172
  refine x_if_eq HE 179 dX5_personLine_175 (by decide) (fun c175 => ?_) (fun c175 => ?_)
  · have hw := hw.1 c175
    refine x_aload_n HE 1 dX5_personLine_179 rfl rfl ?_
    obtain ⟨v180, hw⟩ := hw
    refine x_gR HE dX5_personLine_180 fd_X17_2 q983 (Or.inl rfl) (Lay_X17.tag v180) (Lay_X17_2 v180).1 ?_
    refine x_iload_n HE 3 dX5_personLine_183 rfl rfl ?_
    refine x_iload HE dX5_personLine_184 rfl ?_
    obtain ⟨i186, hw⟩ := hw
    refine x_iast HE dX5_personLine_186 ((Lay_X17_2 v180).2.1) (ix_of ((Lay_X17_2 v180).2.2) i186) (fun m186 em186 E186 => ?_)
    have hw := hw m186 em186
    obtain ⟨v187, hw⟩ := hw
    refine x_iincN HE (fun y187 => [some (rV x0), some (rV l1), some (iV y187), some (iV l3), some (iV r166)]) dX5_personLine_187 rfl v187 (Nat.le_of_ble_eq_true rfl) (fun _ => rfl) (fun y187 ey187 => ?_)
    have hw := hw y187 ey187
    refine x_aload_n HE 0 dX5_personLine_190 rfl rfl ?_
    refine x_bipush HE dX5_personLine_191 (by decide) ?_
    refine x_callV HE dX5_personLine_193 rfl (fun l => k_X5_eatsSign ((EB.tr (E159.tr (E166.tr (E172.tr E186)))).tag f0 (by decide)) l hw) (As := [iV 44]) (rest := []) rfl xc20 ((EB.tr (E159.tr (E166.tr (E172.tr E186)))).tag f0 (by decide)) (lw_V q1029 q1031 qs21 q130 q1032) hy_X5_eatsSign rfl rfl (Nat.le_of_ble_eq_true rfl) (Nat.le_of_ble_eq_true rfl) (Nat.le_of_ble_eq_true rfl) (kkI (fun r193 m193 E193 hw => ?_))
    have hw := hw E193
    refine x_if_ne HE 108 dX5_personLine_196 (by decide) (fun c196 => ?_) (fun c196 => ?_)
    · have hw := hw.1 c196
      refine Wx.mask [true, true, true, false, false] (lo2 := [some (rV x0), some (rV l1), some (iV y187), none, none]) rfl ?_
      exact hK108 _ _ _ hw
    · have hw := hw.2 c196
      refine Wx.mask [true, true, false, false, false] (lo2 := [some (rV x0), some (rV l1), none, none, none]) rfl ?_
      exact w_X5_personLine_199 HE hr f0 hw
  · have hw := hw.2 c175
    refine Wx.mask [true, false, false, false, false] (lo2 := [some (rV x0), none, none, none, none]) rfl ?_
    exact w_X5_personLine_178 HE hr f0 hw
def g_X5_personLine_b148 (x0 : Int) (Q : Hp → Prop) (K108 : Int → Int → Hp → Prop) (l1 l2 l3 : Int) (h : Hp) : Prop :=
  ((l2 ≠ 3) → (g_X5_personLine_b158 x0 Q K108 l1 l2 l3 h)) ∧ ((l2 = 3) → (g_X5_wrong x0 5 (fun m155 => Ext h m155 → (g_X5_personLine_b158 x0 Q K108 l1 l2 l3 m155)) h))
theorem w_X5_personLine_148 {G : GT} {X : ET} {h0 : Hp} {x0 : Int} (HE : XE G X cX5_personLine 5 RX5 10 259 h0) (hr : XR X none) (f0 : hT h0 x0 = 20) {Q : Hp → Prop} {K108 : Int → Int → Hp → Prop} (hK108 : ∀ (l1 l2 : Int) (h : Hp), K108 l1 l2 h → Wx G X h0 (QV Q) h 108 [some (rV x0), some (rV l1), some (iV l2), none, none] []) {l1 l2 l3 : Int} {h : Hp} (hw : g_X5_personLine_b148 x0 Q K108 l1 l2 l3 h) : Wx G X h0 (QV Q) h 148 [some (rV x0), some (rV l1), some (iV l2), some (iV l3), none] [] := by
  refine Wx.start (fun EB => ?_)
  unfold g_X5_personLine_b148 at hw
  refine x_iload_n HE 2 dX5_personLine_148 rfl rfl ?_
  refine x_iconst HE dX5_personLine_149 (by decide) ?_
  refine x_ic_ne HE 158 dX5_personLine_150 (by decide) (fun c150 => ?_) (fun c150 => ?_)
  · have hw := hw.1 c150
    exact w_X5_personLine_158 HE hr f0 hK108 hw
  · have hw := hw.2 c150
    refine x_aload_n HE 0 dX5_personLine_153 rfl rfl ?_
    refine x_iconst HE dX5_personLine_154 (by decide) ?_
    refine x_callV HE dX5_personLine_155 rfl (fun l => k_X5_wrong (EB.tag f0 (by decide)) l hw) (As := [iV 5]) (rest := []) rfl xc20 (EB.tag f0 (by decide)) (lw_V q671 q673 qs4 q130 q674) hy_X5_wrong rfl rfl (Nat.le_of_ble_eq_true rfl) (Nat.le_of_ble_eq_true rfl) (Nat.le_of_ble_eq_true rfl) (kkV (fun m155 E155 hw => ?_))
    have hw := hw E155
    exact w_X5_personLine_158 HE hr f0 hK108 hw
def g_X5_personLine_L108 (x0 : Int) (Q : Hp → Prop) (K108 : Int → Int → Hp → Prop) (l1 l2 : Int) (h : Hp) : Prop :=
  (hT h (hF h x0 2) = 18) ∧ ((Lay_X7 h (hF h x0 1)) ∧ (g_X7_drink (hF h x0 1) (hF h (hF h x0 2) 3) (fun r120 m120 => Ext h m120 → (g_X5_known x0 r120 (fun r123 m123 => Ext m120 m123 → (g_X5_isOver x0 (fun r128 m128 => Ext m123 m128 → (((r128 ≠ 0) → (g_X5_personLine_b148 x0 Q K108 l1 l2 r123 m128)) ∧ ((r128 = 0) → ((Lay_X17 m128 l1) ∧ (((0 : Int) ≤ r123 ∧ r123 < 5) ∧ ((((hA m128 (l1 + 1) r123) ≤ 0) → (g_X5_personLine_b148 x0 Q K108 l1 l2 r123 m128)) ∧ ((0 < (hA m128 (l1 + 1) r123)) → (g_X5_wrong x0 3 (fun m145 => Ext m128 m145 → (g_X5_personLine_b148 x0 Q K108 l1 l2 r123 m145)) m128)))))))) m123)) m120)) h))
theorem w_X5_personLine_108 {G : GT} {X : ET} {h0 : Hp} {x0 : Int} (HE : XE G X cX5_personLine 5 RX5 10 259 h0) (hr : XR X none) (f0 : hT h0 x0 = 20) {Q : Hp → Prop} {K108 : Int → Int → Hp → Prop} (hK108 : ∀ (l1 l2 : Int) (h : Hp), K108 l1 l2 h → Wx G X h0 (QV Q) h 108 [some (rV x0), some (rV l1), some (iV l2), none, none] []) {l1 l2 : Int} {h : Hp} (hw : g_X5_personLine_L108 x0 Q K108 l1 l2 h) : Wx G X h0 (QV Q) h 108 [some (rV x0), some (rV l1), some (iV l2), none, none] [] := by
  refine Wx.start (fun EB => ?_)
  unfold g_X5_personLine_L108 at hw
  refine x_aload_n HE 0 dX5_personLine_108 rfl rfl ?_
  refine x_aload_n HE 0 dX5_personLine_109 rfl rfl ?_
  refine x_gR HE dX5_personLine_110 fd_X5_1 q574 (Or.inl rfl) (EB.tag f0 (by decide)) rfl ?_
  refine x_aload_n HE 0 dX5_personLine_113 rfl rfl ?_
  refine x_gR HE dX5_personLine_114 fd_X5_2 q575 (Or.inl rfl) (EB.tag f0 (by decide)) rfl ?_
  obtain ⟨v117, hw⟩ := hw
  refine x_gR HE dX5_personLine_117 fd_X8_3 q373 (Or.inl rfl) v117 rfl ?_
  obtain ⟨u120_0, hw⟩ := hw
  refine x_callV HE dX5_personLine_120 rfl (fun l => k_X7_drink u120_0 l hw) (As := [rV (hF h (hF h x0 2) 3)]) (rest := [rV x0]) rfl xc12 (Lay_X7.tag u120_0) (lw_V q1024 q750 q751 q132 q752) hy_X7_drink rfl rfl (Nat.le_of_ble_eq_true rfl) (Nat.le_of_ble_eq_true rfl) (Nat.le_of_ble_eq_true rfl) (kkI (fun r120 m120 E120 hw => ?_))
  have hw := hw E120
  refine x_callV HE dX5_personLine_123 rfl (fun l => k_X5_known ((EB.tr E120).tag f0 (by decide)) l hw) (As := [iV r120]) (rest := []) rfl xc20 ((EB.tr E120).tag f0 (by decide)) (lw_V q1025 q1027 qs20 q130 q1028) hy_X5_known rfl rfl (Nat.le_of_ble_eq_true rfl) (Nat.le_of_ble_eq_true rfl) (Nat.le_of_ble_eq_true rfl) (kkI (fun r123 m123 E123 hw => ?_))
  have hw := hw E123
  refine x_istore_n HE 3 (lo' := [some (rV x0), some (rV l1), some (iV l2), some (iV r123), none]) dX5_personLine_126 rfl (Nat.le_of_ble_eq_true rfl) rfl ?_
  refine x_aload_n HE 0 dX5_personLine_127 rfl rfl ?_
  refine x_callV HE dX5_personLine_128 rfl (fun l => k_X5_isOver ((EB.tr (E120.tr E123)).tag f0 (by decide)) l hw) (As := []) (rest := []) rfl xc20 ((EB.tr (E120.tr E123)).tag f0 (by decide)) (lw_V q675 q677 qs5 q130 q678) hy_X5_isOver rfl rfl (Nat.le_of_ble_eq_true rfl) (Nat.le_of_ble_eq_true rfl) (Nat.le_of_ble_eq_true rfl) (kkI (fun r128 m128 E128 hw => ?_))
  have hw := hw E128
  refine x_if_ne HE 148 dX5_personLine_131 (by decide) (fun c131 => ?_) (fun c131 => ?_)
  · have hw := hw.1 c131
    exact w_X5_personLine_148 HE hr f0 hK108 hw
  · have hw := hw.2 c131
    refine x_aload_n HE 1 dX5_personLine_134 rfl rfl ?_
    obtain ⟨v135, hw⟩ := hw
    refine x_gR HE dX5_personLine_135 fd_X17_2 q983 (Or.inl rfl) (Lay_X17.tag v135) (Lay_X17_2 v135).1 ?_
    refine x_iload_n HE 3 dX5_personLine_138 rfl rfl ?_
    obtain ⟨i139, hw⟩ := hw
    refine x_iald HE dX5_personLine_139 (t := 1) (by decide) ((Lay_X17_2 v135).2.1) (ix_of ((Lay_X17_2 v135).2.2) i139) rfl ?_
    refine x_if_le HE 148 dX5_personLine_140 (by decide) (fun c140 => ?_) (fun c140 => ?_)
    · have hw := hw.1 c140
      exact w_X5_personLine_148 HE hr f0 hK108 hw
    · have hw := hw.2 c140
      refine x_aload_n HE 0 dX5_personLine_143 rfl rfl ?_
      refine x_iconst HE dX5_personLine_144 (by decide) ?_
      refine x_callV HE dX5_personLine_145 rfl (fun l => k_X5_wrong ((EB.tr (E120.tr (E123.tr E128))).tag f0 (by decide)) l hw) (As := [iV 3]) (rest := []) rfl xc20 ((EB.tr (E120.tr (E123.tr E128))).tag f0 (by decide)) (lw_V q671 q673 qs4 q130 q674) hy_X5_wrong rfl rfl (Nat.le_of_ble_eq_true rfl) (Nat.le_of_ble_eq_true rfl) (Nat.le_of_ble_eq_true rfl) (kkV (fun m145 E145 hw => ?_))
      have hw := hw E145
      exact w_X5_personLine_148 HE hr f0 hK108 hw
theorem wl_X5_personLine_108 {G : GT} {X : ET} {h0 : Hp} {x0 : Int} (HE : XE G X cX5_personLine 5 RX5 10 259 h0) (hr : XR X none) (f0 : hT h0 x0 = 20) {Q : Hp → Prop} {l1 l2 : Int} {h : Hp} (hw : Lp2 (g_X5_personLine_L108 x0 Q) l1 l2 h) : Wx G X h0 (QV Q) h 108 [some (rV x0), some (rV l1), some (iV l2), none, none] [] := by
  obtain ⟨n, hw⟩ := hw
  induction n generalizing l1 l2 h with
  | zero => exact hw.elim
  | succ n ih => exact w_X5_personLine_108 HE hr f0 (fun _ _ _ hk => ih hk) hw
def g_X5_personLine (x0 : Int) (Q : Hp → Prop) (h : Hp) : Prop :=
  (Lay_X7 h (hF h x0 1)) ∧ (g_J2_size ((hF h x0 1) + 3) (fun r8 m8 => Ext h m8 → (g_X5_begins x0 r8 10 (fun m13 => Ext m8 m13 → ((capOK m13 8) ∧ (∀ (a16 : Int) (m16 : Hp), a16 = hN m13 → m16 = alloc m13 14 0 8 → WFa m13 → (g_X5_fresh x0 (fun r21 m21 => Ext m16 m21 → (g_X5_manner x0 (fun r25 m25 => Ext m21 m25 → (g_X17_init a16 r21 r25 (fun m28 => Ext m25 m28 → ((Lay_X7 m28 (hF m28 x0 1)) ∧ (g_X5_part x0 (hF m28 0 26) 0 (hF m28 (hF m28 x0 1) 1) (fun r44 m44 => Ext m28 m44 → (∀ m47 : Hp, m47 = setF m44 a16 3 r44 → ((Lay_X7 m47 (hF m47 x0 1)) ∧ ((i32 ((hF m47 (hF m47 x0 1) 0) - 1)) ∧ (g_X5_part x0 (hF m47 0 18) 0 ((hF m47 (hF m47 x0 1) 0) - 1) (fun r64 m64 => Ext m47 m64 → (∀ m67 : Hp, m67 = setF m64 a16 4 r64 → (g_X5_part x0 (hF m67 0 27) 0 600 (fun r79 m79 => Ext m67 m79 → (∀ m82 : Hp, m82 = setF m79 a16 5 r79 → (g_X5_part x0 (hF m82 0 28) 0 99 (fun r93 m93 => Ext m82 m93 → (∀ m96 : Hp, m96 = setF m93 a16 6 r93 → (g_X5_needs x0 (hF m96 0 29) (fun m103 => Ext m96 m103 → (Lp2 (g_X5_personLine_L108 x0 Q) a16 0 m103)) m96))) m82))) m67))) m47))))) m28))) m25)) m21)) m16)))) m8)) h)
theorem w_X5_personLine_0 {G : GT} {X : ET} {h0 : Hp} {x0 : Int} (HE : XE G X cX5_personLine 5 RX5 10 259 h0) (hr : XR X none) (f0 : hT h0 x0 = 20) {Q : Hp → Prop} {h : Hp} (hw : g_X5_personLine x0 Q h) : Wx G X h0 (QV Q) h 0 [some (rV x0), none, none, none, none] [] := by
  refine Wx.start (fun EB => ?_)
  unfold g_X5_personLine at hw
  refine x_aload_n HE 0 dX5_personLine_0 rfl rfl ?_
  refine x_aload_n HE 0 dX5_personLine_1 rfl rfl ?_
  refine x_gR HE dX5_personLine_2 fd_X5_1 q574 (Or.inl rfl) (EB.tag f0 (by decide)) rfl ?_
  obtain ⟨v5, hw⟩ := hw
  refine x_gR HE dX5_personLine_5 fd_X7_5 q330 (Or.inl rfl) (Lay_X7.tag v5) (Lay_X7_5 v5).1 ?_
  refine x_callV HE dX5_personLine_8 rfl (fun l => k_J2_size ((Lay_X7_5 v5).2) l hw) (As := []) (rest := [rV x0]) rfl xc32 ((Lay_X7_5 v5).2) (lw_V q707 q708 q709 q128 q710) hy_J2_size rfl rfl (Nat.le_of_ble_eq_true rfl) (Nat.le_of_ble_eq_true rfl) (Nat.le_of_ble_eq_true rfl) (kkI (fun r8 m8 E8 hw => ?_))
  have hw := hw E8
  refine x_bipush HE dX5_personLine_11 (by decide) ?_
  refine x_callV HE dX5_personLine_13 rfl (fun l => k_X5_begins ((EB.tr E8).tag f0 (by decide)) l hw) (As := [iV r8, iV 10]) (rest := []) rfl xc20 ((EB.tr E8).tag f0 (by decide)) (lw_V q711 q713 qs11 q130 q714) hy_X5_begins rfl rfl (Nat.le_of_ble_eq_true rfl) (Nat.le_of_ble_eq_true rfl) (Nat.le_of_ble_eq_true rfl) (kkV (fun m13 E13 hw => ?_))
  have hw := hw E13
  obtain ⟨v16, hw⟩ := hw
  refine x_newN HE dX5_personLine_16 xc14 (by decide) (nro (by decide)) q944 q945 q153 v16 (fun a16 m16 ea16 em16 E16 w16 => ?_)
  have hw := hw a16 m16 ea16 em16 w16
  have t16 := alloc_tag ea16 em16
  refine x_dup HE dX5_personLine_19 (fun o => o) ?_
  refine x_aload_n HE 0 dX5_personLine_20 rfl rfl ?_
  refine x_callV HE dX5_personLine_21 rfl (fun l => k_X5_fresh ((EB.tr (E8.tr (E13.tr E16))).tag f0 (by decide)) l hw) (As := []) (rest := [rV a16, rV a16]) rfl xc20 ((EB.tr (E8.tr (E13.tr E16))).tag f0 (by decide)) (lw_V q715 q717 qs12 q130 q718) hy_X5_fresh rfl rfl (Nat.le_of_ble_eq_true rfl) (Nat.le_of_ble_eq_true rfl) (Nat.le_of_ble_eq_true rfl) (kkR (fun r21 m21 E21 hw => ?_))
  have hw := hw E21
  refine x_aload_n HE 0 dX5_personLine_24 rfl rfl ?_
  refine x_callV HE dX5_personLine_25 rfl (fun l => k_X5_manner ((EB.tr (E8.tr (E13.tr (E16.tr E21)))).tag f0 (by decide)) l hw) (As := []) (rest := [rV r21, rV a16, rV a16]) rfl xc20 ((EB.tr (E8.tr (E13.tr (E16.tr E21)))).tag f0 (by decide)) (lw_V q946 q948 qs19 q130 q949) hy_X5_manner rfl rfl (Nat.le_of_ble_eq_true rfl) (Nat.le_of_ble_eq_true rfl) (Nat.le_of_ble_eq_true rfl) (kkR (fun r25 m25 E25 hw => ?_))
  have hw := hw E25
  refine Wx.wf (fun wf28 => ?_)
  refine x_callI HE dX5_personLine_28 rfl (fun l => k_X17_init ((E21.tr E25).tag t16 (by decide)) l hw) (As := [rV r21, rV r25]) (rest := [rV a16]) rfl (tag_pos wf28 ((E21.tr E25).tag t16 (by decide)) (by decide)) q972 q153 q973 q974 rfl hy_X17_init.2 rfl rfl (Nat.le_of_ble_eq_true rfl) (Nat.le_of_ble_eq_true rfl) (Nat.le_of_ble_eq_true rfl) (kkV (fun m28 E28 hw => ?_))
  have hw := hw E28
  refine x_astore_n HE 1 (lo' := [some (rV x0), some (rV a16), none, none, none]) dX5_personLine_31 rfl (Nat.le_of_ble_eq_true rfl) rfl ?_
  refine x_aload_n HE 1 dX5_personLine_32 rfl rfl ?_
  refine x_aload_n HE 0 dX5_personLine_33 rfl rfl ?_
  refine x_ldcS (k := 25) HE dX5_personLine_34 (List.mem_of_getElem? (i := 32) rfl) (fun hp34 => ?_)
  refine x_iconst HE dX5_personLine_36 (by decide) ?_
  refine x_aload_n HE 0 dX5_personLine_37 rfl rfl ?_
  refine x_gR HE dX5_personLine_38 fd_X5_1 q574 (Or.inl rfl) ((EB.tr (E8.tr (E13.tr (E16.tr (E21.tr (E25.tr E28)))))).tag f0 (by decide)) rfl ?_
  obtain ⟨v41, hw⟩ := hw
  refine x_gI HE dX5_personLine_41 fd_X7_1 q316 (Or.inl rfl) (Lay_X7.tag v41) rfl ?_
  refine x_callV HE dX5_personLine_44 rfl (fun l => k_X5_part ((EB.tr (E8.tr (E13.tr (E16.tr (E21.tr (E25.tr E28)))))).tag f0 (by decide)) l hw) (As := [rV (hF m28 0 26), iV 0, iV (hF m28 (hF m28 x0 1) 1)]) (rest := [rV a16]) rfl xc20 ((EB.tr (E8.tr (E13.tr (E16.tr (E21.tr (E25.tr E28)))))).tag f0 (by decide)) (lw_V q684 q686 qs7 q130 q687) hy_X5_part rfl rfl (Nat.le_of_ble_eq_true rfl) (Nat.le_of_ble_eq_true rfl) (Nat.le_of_ble_eq_true rfl) (kkI (fun r44 m44 E44 hw => ?_))
  have hw := hw E44
  refine x_pI HE dX5_personLine_47 fd_X17_3 q987 (Or.inl rfl) (Or.inl rfl) (nf_int _) ((E21.tr (E25.tr (E28.tr E44))).tag t16 (by decide)) (nro (by decide)) (Or.inl nf_X17_3) (fun m47 em47 E47 => ?_)
  have hw := hw m47 em47
  refine x_aload_n HE 1 dX5_personLine_50 rfl rfl ?_
  refine x_aload_n HE 0 dX5_personLine_51 rfl rfl ?_
  refine x_ldcS (k := 17) HE dX5_personLine_52 (List.mem_of_getElem? (i := 24) rfl) (fun hp52 => ?_)
  refine x_iconst HE dX5_personLine_54 (by decide) ?_
  refine x_aload_n HE 0 dX5_personLine_55 rfl rfl ?_
  refine x_gR HE dX5_personLine_56 fd_X5_1 q574 (Or.inl rfl) ((EB.tr (E8.tr (E13.tr (E16.tr (E21.tr (E25.tr (E28.tr (E44.tr E47)))))))).tag f0 (by decide)) rfl ?_
  obtain ⟨v59, hw⟩ := hw
  refine x_gI HE dX5_personLine_59 fd_X7_0 q313 (Or.inl rfl) (Lay_X7.tag v59) rfl ?_
  refine x_iconst HE dX5_personLine_62 (by decide) ?_
  obtain ⟨v63, hw⟩ := hw
  refine x_isub HE dX5_personLine_63 v63 ?_
  refine x_callV HE dX5_personLine_64 rfl (fun l => k_X5_part ((EB.tr (E8.tr (E13.tr (E16.tr (E21.tr (E25.tr (E28.tr (E44.tr E47)))))))).tag f0 (by decide)) l hw) (As := [rV (hF m47 0 18), iV 0, iV ((hF m47 (hF m47 x0 1) 0) - 1)]) (rest := [rV a16]) rfl xc20 ((EB.tr (E8.tr (E13.tr (E16.tr (E21.tr (E25.tr (E28.tr (E44.tr E47)))))))).tag f0 (by decide)) (lw_V q684 q686 qs7 q130 q687) hy_X5_part rfl rfl (Nat.le_of_ble_eq_true rfl) (Nat.le_of_ble_eq_true rfl) (Nat.le_of_ble_eq_true rfl) (kkI (fun r64 m64 E64 hw => ?_))
  have hw := hw E64
  refine x_pI HE dX5_personLine_67 fd_X17_4 q990 (Or.inl rfl) (Or.inl rfl) (nf_int _) ((E21.tr (E25.tr (E28.tr (E44.tr (E47.tr E64))))).tag t16 (by decide)) (nro (by decide)) (Or.inl nf_X17_4) (fun m67 em67 E67 => ?_)
  have hw := hw m67 em67
  refine x_aload_n HE 1 dX5_personLine_70 rfl rfl ?_
  refine x_aload_n HE 0 dX5_personLine_71 rfl rfl ?_
  refine x_ldcwS (k := 26) HE dX5_personLine_72 (List.mem_of_getElem? (i := 33) rfl) (fun hp72 => ?_)
  refine x_iconst HE dX5_personLine_75 (by decide) ?_
  refine x_sipush HE dX5_personLine_76 (by decide) ?_
  refine x_callV HE dX5_personLine_79 rfl (fun l => k_X5_part ((EB.tr (E8.tr (E13.tr (E16.tr (E21.tr (E25.tr (E28.tr (E44.tr (E47.tr (E64.tr E67)))))))))).tag f0 (by decide)) l hw) (As := [rV (hF m67 0 27), iV 0, iV 600]) (rest := [rV a16]) rfl xc20 ((EB.tr (E8.tr (E13.tr (E16.tr (E21.tr (E25.tr (E28.tr (E44.tr (E47.tr (E64.tr E67)))))))))).tag f0 (by decide)) (lw_V q684 q686 qs7 q130 q687) hy_X5_part rfl rfl (Nat.le_of_ble_eq_true rfl) (Nat.le_of_ble_eq_true rfl) (Nat.le_of_ble_eq_true rfl) (kkI (fun r79 m79 E79 hw => ?_))
  have hw := hw E79
  refine x_pI HE dX5_personLine_82 fd_X17_5 q993 (Or.inl rfl) (Or.inl rfl) (nf_int _) ((E21.tr (E25.tr (E28.tr (E44.tr (E47.tr (E64.tr (E67.tr E79))))))).tag t16 (by decide)) (nro (by decide)) (Or.inl nf_X17_5) (fun m82 em82 E82 => ?_)
  have hw := hw m82 em82
  refine x_aload_n HE 1 dX5_personLine_85 rfl rfl ?_
  refine x_aload_n HE 0 dX5_personLine_86 rfl rfl ?_
  refine x_ldcwS (k := 27) HE dX5_personLine_87 (List.mem_of_getElem? (i := 34) rfl) (fun hp87 => ?_)
  refine x_iconst HE dX5_personLine_90 (by decide) ?_
  refine x_bipush HE dX5_personLine_91 (by decide) ?_
  refine x_callV HE dX5_personLine_93 rfl (fun l => k_X5_part ((EB.tr (E8.tr (E13.tr (E16.tr (E21.tr (E25.tr (E28.tr (E44.tr (E47.tr (E64.tr (E67.tr (E79.tr E82)))))))))))).tag f0 (by decide)) l hw) (As := [rV (hF m82 0 28), iV 0, iV 99]) (rest := [rV a16]) rfl xc20 ((EB.tr (E8.tr (E13.tr (E16.tr (E21.tr (E25.tr (E28.tr (E44.tr (E47.tr (E64.tr (E67.tr (E79.tr E82)))))))))))).tag f0 (by decide)) (lw_V q684 q686 qs7 q130 q687) hy_X5_part rfl rfl (Nat.le_of_ble_eq_true rfl) (Nat.le_of_ble_eq_true rfl) (Nat.le_of_ble_eq_true rfl) (kkI (fun r93 m93 E93 hw => ?_))
  have hw := hw E93
  refine x_pI HE dX5_personLine_96 fd_X17_6 q996 (Or.inl rfl) (Or.inl rfl) (nf_int _) ((E21.tr (E25.tr (E28.tr (E44.tr (E47.tr (E64.tr (E67.tr (E79.tr (E82.tr E93))))))))).tag t16 (by decide)) (nro (by decide)) (Or.inl nf_X17_6) (fun m96 em96 E96 => ?_)
  have hw := hw m96 em96
  refine x_aload_n HE 0 dX5_personLine_99 rfl rfl ?_
  refine x_ldcwS (k := 28) HE dX5_personLine_100 (List.mem_of_getElem? (i := 35) rfl) (fun hp100 => ?_)
  refine x_callV HE dX5_personLine_103 rfl (fun l => k_X5_needs ((EB.tr (E8.tr (E13.tr (E16.tr (E21.tr (E25.tr (E28.tr (E44.tr (E47.tr (E64.tr (E67.tr (E79.tr (E82.tr (E93.tr E96)))))))))))))).tag f0 (by decide)) l hw) (As := [rV (hF m96 0 29)]) (rest := []) rfl xc20 ((EB.tr (E8.tr (E13.tr (E16.tr (E21.tr (E25.tr (E28.tr (E44.tr (E47.tr (E64.tr (E67.tr (E79.tr (E82.tr (E93.tr E96)))))))))))))).tag f0 (by decide)) (lw_V q688 q690 qs8 q130 q691) hy_X5_needs rfl rfl (Nat.le_of_ble_eq_true rfl) (Nat.le_of_ble_eq_true rfl) (Nat.le_of_ble_eq_true rfl) (kkV (fun m103 E103 hw => ?_))
  have hw := hw E103
  refine x_iconst HE dX5_personLine_106 (by decide) ?_
  refine x_istore_n HE 2 (lo' := [some (rV x0), some (rV a16), some (iV 0), none, none]) dX5_personLine_107 rfl (Nat.le_of_ble_eq_true rfl) rfl ?_
  exact wl_X5_personLine_108 HE hr f0 hw
theorem k_X5_personLine {G : GT} {x0 : Int} {Q : Hp → Prop} {h : Hp} (f0 : hT h x0 = 20) (l : Launch) (hw : g_X5_personLine x0 Q h) : XM G l yX5_personLine cX5_personLine 5 none 10 259 [rV x0] (QV Q) h :=
  XM.of (by decide) (Nat.le_of_ble_eq_true rfl) (fun X HE hr hn => w_X5_personLine_0 HE hr f0 hw)
def g_X5_shelf_b59 (x0 : Int) (Q : Hp → Prop) (l1 : Int) (h : Hp) : Prop :=
  g_X5_on x0 (fun m60 => Ext h m60 → ((Lay_X7 m60 (hF m60 x0 1)) ∧ (g_X5_part x0 (hF m60 0 30) 0 (hF m60 (hF m60 x0 1) 1) (fun r75 m75 => Ext m60 m75 → (g_X5_isOver x0 (fun r80 m80 => Ext m75 m80 → (((r80 = 0) → ((Lay_X7 m80 (hF m80 x0 1)) ∧ (g_J2_get ((hF m80 x0 1) + 3) l1 (fun r95 m95 => Ext m80 m95 → ((Lay_X17 m95 r95) ∧ (∀ m102 : Hp, m102 = setF m95 r95 7 r75 → ((Lay_X7 m102 (hF m102 x0 1)) ∧ ((i32 ((hF m102 (hF m102 x0 1) 2) + 1)) ∧ (∀ m115 : Hp, m115 = setF m102 (hF m102 x0 1) 2 ((hF m102 (hF m102 x0 1) 2) + 1) → (Q m115))))))) m80))) ∧ ((r80 ≠ 0) → (Q m80)))) m75)) m60))) h
theorem w_X5_shelf_59 {G : GT} {X : ET} {h0 : Hp} {x0 : Int} (HE : XE G X cX5_shelf 3 RX5 10 259 h0) (hr : XR X none) (f0 : hT h0 x0 = 20) {Q : Hp → Prop} {l1 : Int} {h : Hp} (hw : g_X5_shelf_b59 x0 Q l1 h) : Wx G X h0 (QV Q) h 59 [some (rV x0), some (iV l1), none] [] := by
  refine Wx.start (fun EB => ?_)
  unfold g_X5_shelf_b59 at hw
  refine x_aload_n HE 0 dX5_shelf_59 rfl rfl ?_
  refine x_callV HE dX5_shelf_60 rfl (fun l => k_X5_on (EB.tag f0 (by decide)) l hw) (As := []) (rest := []) rfl xc20 (EB.tag f0 (by decide)) (lw_V q679 q681 qs6 q130 q682) hy_X5_on rfl rfl (Nat.le_of_ble_eq_true rfl) (Nat.le_of_ble_eq_true rfl) (Nat.le_of_ble_eq_true rfl) (kkV (fun m60 E60 hw => ?_))
  have hw := hw E60
  refine x_aload_n HE 0 dX5_shelf_63 rfl rfl ?_
  refine x_ldcwS (k := 29) HE dX5_shelf_64 (List.mem_of_getElem? (i := 36) rfl) (fun hp64 => ?_)
  refine x_iconst HE dX5_shelf_67 (by decide) ?_
  refine x_aload_n HE 0 dX5_shelf_68 rfl rfl ?_
  refine x_gR HE dX5_shelf_69 fd_X5_1 q574 (Or.inl rfl) ((EB.tr E60).tag f0 (by decide)) rfl ?_
  obtain ⟨v72, hw⟩ := hw
  refine x_gI HE dX5_shelf_72 fd_X7_1 q316 (Or.inl rfl) (Lay_X7.tag v72) rfl ?_
  refine x_callV HE dX5_shelf_75 rfl (fun l => k_X5_part ((EB.tr E60).tag f0 (by decide)) l hw) (As := [rV (hF m60 0 30), iV 0, iV (hF m60 (hF m60 x0 1) 1)]) (rest := []) rfl xc20 ((EB.tr E60).tag f0 (by decide)) (lw_V q684 q686 qs7 q130 q687) hy_X5_part rfl rfl (Nat.le_of_ble_eq_true rfl) (Nat.le_of_ble_eq_true rfl) (Nat.le_of_ble_eq_true rfl) (kkI (fun r75 m75 E75 hw => ?_))
  have hw := hw E75
  refine x_istore_n HE 2 (lo' := [some (rV x0), some (iV l1), some (iV r75)]) dX5_shelf_78 rfl (Nat.le_of_ble_eq_true rfl) rfl ?_
  refine x_aload_n HE 0 dX5_shelf_79 rfl rfl ?_
  refine x_callV HE dX5_shelf_80 rfl (fun l => k_X5_isOver ((EB.tr (E60.tr E75)).tag f0 (by decide)) l hw) (As := []) (rest := []) rfl xc20 ((EB.tr (E60.tr E75)).tag f0 (by decide)) (lw_V q675 q677 qs5 q130 q678) hy_X5_isOver rfl rfl (Nat.le_of_ble_eq_true rfl) (Nat.le_of_ble_eq_true rfl) (Nat.le_of_ble_eq_true rfl) (kkI (fun r80 m80 E80 hw => ?_))
  have hw := hw E80
  refine x_if_eq HE 87 dX5_shelf_83 (by decide) (fun c83 => ?_) (fun c83 => ?_)
  · have hw := hw.1 c83
    refine x_aload_n HE 0 dX5_shelf_87 rfl rfl ?_
    refine x_gR HE dX5_shelf_88 fd_X5_1 q574 (Or.inl rfl) ((EB.tr (E60.tr (E75.tr E80))).tag f0 (by decide)) rfl ?_
    obtain ⟨v91, hw⟩ := hw
    refine x_gR HE dX5_shelf_91 fd_X7_5 q330 (Or.inl rfl) (Lay_X7.tag v91) (Lay_X7_5 v91).1 ?_
    refine x_iload_n HE 1 dX5_shelf_94 rfl rfl ?_
    refine x_callV HE dX5_shelf_95 rfl (fun l => k_J2_get ((Lay_X7_5 v91).2) l hw) (As := [iV l1]) (rest := []) rfl xc32 ((Lay_X7_5 v91).2) (lw_V q1042 q736 q737 q128 q738) hy_J2_get rfl rfl (Nat.le_of_ble_eq_true rfl) (Nat.le_of_ble_eq_true rfl) (Nat.le_of_ble_eq_true rfl) (kkR (fun r95 m95 E95 hw => ?_))
    have hw := hw E95
    obtain ⟨v98, hw⟩ := hw
    refine x_castS HE dX5_shelf_98 xc14 q944 (Lay_X17.tag v98) ?_
    refine x_iload_n HE 2 dX5_shelf_101 rfl rfl ?_
    refine x_pI HE dX5_shelf_102 fd_X17_7 q1000 (Or.inl rfl) (Or.inl rfl) (nf_int _) (Lay_X17.tag v98) (nro (by decide)) (Or.inl nf_X17_7) (fun m102 em102 E102 => ?_)
    have hw := hw m102 em102
    refine x_aload_n HE 0 dX5_shelf_105 rfl rfl ?_
    refine x_gR HE dX5_shelf_106 fd_X5_1 q574 (Or.inl rfl) ((EB.tr (E60.tr (E75.tr (E80.tr (E95.tr E102))))).tag f0 (by decide)) rfl ?_
    refine x_dup HE dX5_shelf_109 (fun o => o) ?_
    obtain ⟨v110, hw⟩ := hw
    refine x_gI HE dX5_shelf_110 fd_X7_2 q318 (Or.inl rfl) (Lay_X7.tag v110) rfl ?_
    refine x_iconst HE dX5_shelf_113 (by decide) ?_
    obtain ⟨v114, hw⟩ := hw
    refine x_iadd HE dX5_shelf_114 v114 ?_
    refine x_pI HE dX5_shelf_115 fd_X7_2 q318 (Or.inl rfl) (Or.inl rfl) (nf_int _) (Lay_X7.tag v110) (nro (by decide)) (Or.inl nf_X7_2) (fun m115 em115 E115 => ?_)
    have hw := hw m115 em115
    exact x_vret HE hr dX5_shelf_118 hw
  · have hw := hw.2 c83
    exact x_vret HE hr dX5_shelf_86 hw
def g_X5_shelf (x0 : Int) (Q : Hp → Prop) (h : Hp) : Prop :=
  g_X5_begins x0 0 1 (fun m3 => Ext h m3 → ((hT m3 (hF m3 x0 2) = 18) ∧ ((Lay_X7 m3 (hF m3 x0 1)) ∧ (g_X7_person (hF m3 x0 1) (hF m3 (hF m3 x0 2) 3) (fun r18 m18 => Ext m3 m18 → (g_X5_known x0 r18 (fun r21 m21 => Ext m18 m21 → (g_X5_isOver x0 (fun r26 m26 => Ext m21 m26 → (((r26 ≠ 0) → (g_X5_shelf_b59 x0 Q r21 m26)) ∧ ((r26 = 0) → ((Lay_X7 m26 (hF m26 x0 1)) ∧ (g_J2_get ((hF m26 x0 1) + 3) r21 (fun r40 m40 => Ext m26 m40 → ((Lay_X17 m40 r40) ∧ ((((hF m40 r40 7) = (-2)) → (g_X5_shelf_b59 x0 Q r21 m40)) ∧ (((hF m40 r40 7) ≠ (-2)) → (g_X5_wrong x0 3 (fun m56 => Ext m40 m56 → (g_X5_shelf_b59 x0 Q r21 m56)) m40))))) m26))))) m21)) m18)) m3)))) h
theorem w_X5_shelf_0 {G : GT} {X : ET} {h0 : Hp} {x0 : Int} (HE : XE G X cX5_shelf 3 RX5 10 259 h0) (hr : XR X none) (f0 : hT h0 x0 = 20) {Q : Hp → Prop} {h : Hp} (hw : g_X5_shelf x0 Q h) : Wx G X h0 (QV Q) h 0 [some (rV x0), none, none] [] := by
  refine Wx.start (fun EB => ?_)
  unfold g_X5_shelf at hw
  refine x_aload_n HE 0 dX5_shelf_0 rfl rfl ?_
  refine x_iconst HE dX5_shelf_1 (by decide) ?_
  refine x_iconst HE dX5_shelf_2 (by decide) ?_
  refine x_callV HE dX5_shelf_3 rfl (fun l => k_X5_begins (EB.tag f0 (by decide)) l hw) (As := [iV 0, iV 1]) (rest := []) rfl xc20 (EB.tag f0 (by decide)) (lw_V q711 q713 qs11 q130 q714) hy_X5_begins rfl rfl (Nat.le_of_ble_eq_true rfl) (Nat.le_of_ble_eq_true rfl) (Nat.le_of_ble_eq_true rfl) (kkV (fun m3 E3 hw => ?_))
  have hw := hw E3
  refine x_aload_n HE 0 dX5_shelf_6 rfl rfl ?_
  refine x_aload_n HE 0 dX5_shelf_7 rfl rfl ?_
  refine x_gR HE dX5_shelf_8 fd_X5_1 q574 (Or.inl rfl) ((EB.tr E3).tag f0 (by decide)) rfl ?_
  refine x_aload_n HE 0 dX5_shelf_11 rfl rfl ?_
  refine x_gR HE dX5_shelf_12 fd_X5_2 q575 (Or.inl rfl) ((EB.tr E3).tag f0 (by decide)) rfl ?_
  obtain ⟨v15, hw⟩ := hw
  refine x_gR HE dX5_shelf_15 fd_X8_3 q373 (Or.inl rfl) v15 rfl ?_
  obtain ⟨u18_0, hw⟩ := hw
  refine x_callV HE dX5_shelf_18 rfl (fun l => k_X7_person u18_0 l hw) (As := [rV (hF m3 (hF m3 x0 2) 3)]) (rest := [rV x0]) rfl xc12 (Lay_X7.tag u18_0) (lw_V q1041 q755 q756 q132 q757) hy_X7_person rfl rfl (Nat.le_of_ble_eq_true rfl) (Nat.le_of_ble_eq_true rfl) (Nat.le_of_ble_eq_true rfl) (kkI (fun r18 m18 E18 hw => ?_))
  have hw := hw E18
  refine x_callV HE dX5_shelf_21 rfl (fun l => k_X5_known ((EB.tr (E3.tr E18)).tag f0 (by decide)) l hw) (As := [iV r18]) (rest := []) rfl xc20 ((EB.tr (E3.tr E18)).tag f0 (by decide)) (lw_V q1025 q1027 qs20 q130 q1028) hy_X5_known rfl rfl (Nat.le_of_ble_eq_true rfl) (Nat.le_of_ble_eq_true rfl) (Nat.le_of_ble_eq_true rfl) (kkI (fun r21 m21 E21 hw => ?_))
  have hw := hw E21
  refine x_istore_n HE 1 (lo' := [some (rV x0), some (iV r21), none]) dX5_shelf_24 rfl (Nat.le_of_ble_eq_true rfl) rfl ?_
  refine x_aload_n HE 0 dX5_shelf_25 rfl rfl ?_
  refine x_callV HE dX5_shelf_26 rfl (fun l => k_X5_isOver ((EB.tr (E3.tr (E18.tr E21))).tag f0 (by decide)) l hw) (As := []) (rest := []) rfl xc20 ((EB.tr (E3.tr (E18.tr E21))).tag f0 (by decide)) (lw_V q675 q677 qs5 q130 q678) hy_X5_isOver rfl rfl (Nat.le_of_ble_eq_true rfl) (Nat.le_of_ble_eq_true rfl) (Nat.le_of_ble_eq_true rfl) (kkI (fun r26 m26 E26 hw => ?_))
  have hw := hw E26
  refine x_if_ne HE 59 dX5_shelf_29 (by decide) (fun c29 => ?_) (fun c29 => ?_)
  · have hw := hw.1 c29
    exact w_X5_shelf_59 HE hr f0 hw
  · have hw := hw.2 c29
    refine x_aload_n HE 0 dX5_shelf_32 rfl rfl ?_
    refine x_gR HE dX5_shelf_33 fd_X5_1 q574 (Or.inl rfl) ((EB.tr (E3.tr (E18.tr (E21.tr E26)))).tag f0 (by decide)) rfl ?_
    obtain ⟨v36, hw⟩ := hw
    refine x_gR HE dX5_shelf_36 fd_X7_5 q330 (Or.inl rfl) (Lay_X7.tag v36) (Lay_X7_5 v36).1 ?_
    refine x_iload_n HE 1 dX5_shelf_39 rfl rfl ?_
    refine x_callV HE dX5_shelf_40 rfl (fun l => k_J2_get ((Lay_X7_5 v36).2) l hw) (As := [iV r21]) (rest := []) rfl xc32 ((Lay_X7_5 v36).2) (lw_V q1042 q736 q737 q128 q738) hy_J2_get rfl rfl (Nat.le_of_ble_eq_true rfl) (Nat.le_of_ble_eq_true rfl) (Nat.le_of_ble_eq_true rfl) (kkR (fun r40 m40 E40 hw => ?_))
    have hw := hw E40
    obtain ⟨v43, hw⟩ := hw
    refine x_castS HE dX5_shelf_43 xc14 q944 (Lay_X17.tag v43) ?_
    refine x_gI HE dX5_shelf_46 fd_X17_7 q1000 (Or.inl rfl) (Lay_X17.tag v43) rfl ?_
    refine x_bipush HE dX5_shelf_49 (by decide) ?_
    refine x_ic_eq HE 59 dX5_shelf_51 (by decide) (fun c51 => ?_) (fun c51 => ?_)
    · have hw := hw.1 c51
      exact w_X5_shelf_59 HE hr f0 hw
    · have hw := hw.2 c51
      refine x_aload_n HE 0 dX5_shelf_54 rfl rfl ?_
      refine x_iconst HE dX5_shelf_55 (by decide) ?_
      refine x_callV HE dX5_shelf_56 rfl (fun l => k_X5_wrong ((EB.tr (E3.tr (E18.tr (E21.tr (E26.tr E40))))).tag f0 (by decide)) l hw) (As := [iV 3]) (rest := []) rfl xc20 ((EB.tr (E3.tr (E18.tr (E21.tr (E26.tr E40))))).tag f0 (by decide)) (lw_V q671 q673 qs4 q130 q674) hy_X5_wrong rfl rfl (Nat.le_of_ble_eq_true rfl) (Nat.le_of_ble_eq_true rfl) (Nat.le_of_ble_eq_true rfl) (kkV (fun m56 E56 hw => ?_))
      have hw := hw E56
      exact w_X5_shelf_59 HE hr f0 hw
theorem k_X5_shelf {G : GT} {x0 : Int} {Q : Hp → Prop} {h : Hp} (f0 : hT h x0 = 20) (l : Launch) (hw : g_X5_shelf x0 Q h) : XM G l yX5_shelf cX5_shelf 3 none 10 259 [rV x0] (QV Q) h :=
  XM.of (by decide) (Nat.le_of_ble_eq_true rfl) (fun X HE hr hn => w_X5_shelf_0 HE hr f0 hw)
def g_X5_person (x0 : Int) (Q : Int → Hp → Prop) (h : Hp) : Prop :=
  (hT h (hF h x0 2) = 18) ∧ ((Lay_X7 h (hF h x0 1)) ∧ (g_X7_person (hF h x0 1) (hF h (hF h x0 2) 3) (fun r12 m12 => Ext h m12 → (g_X5_known x0 r12 (fun r15 m15 => Ext m12 m15 → (g_X5_on x0 (fun m20 => Ext m15 m20 → (Q r15 m20)) m15)) m12)) h))
theorem w_X5_person_0 {G : GT} {X : ET} {h0 : Hp} {x0 : Int} (HE : XE G X cX5_person 2 RX5 8 213 h0) (hr : XR X (some .int)) (f0 : hT h0 x0 = 20) {Q : Int → Hp → Prop} {h : Hp} (hw : g_X5_person x0 Q h) : Wx G X h0 (QI Q) h 0 [some (rV x0), none] [] := by
  refine Wx.start (fun EB => ?_)
  unfold g_X5_person at hw
  refine x_aload_n HE 0 dX5_person_0 rfl rfl ?_
  refine x_aload_n HE 0 dX5_person_1 rfl rfl ?_
  refine x_gR HE dX5_person_2 fd_X5_1 q574 (Or.inl rfl) (EB.tag f0 (by decide)) rfl ?_
  refine x_aload_n HE 0 dX5_person_5 rfl rfl ?_
  refine x_gR HE dX5_person_6 fd_X5_2 q575 (Or.inl rfl) (EB.tag f0 (by decide)) rfl ?_
  obtain ⟨v9, hw⟩ := hw
  refine x_gR HE dX5_person_9 fd_X8_3 q373 (Or.inl rfl) v9 rfl ?_
  obtain ⟨u12_0, hw⟩ := hw
  refine x_callV HE dX5_person_12 rfl (fun l => k_X7_person u12_0 l hw) (As := [rV (hF h (hF h x0 2) 3)]) (rest := [rV x0]) rfl xc12 (Lay_X7.tag u12_0) (lw_V q1041 q755 q756 q132 q757) hy_X7_person rfl rfl (Nat.le_of_ble_eq_true rfl) (Nat.le_of_ble_eq_true rfl) (Nat.le_of_ble_eq_true rfl) (kkI (fun r12 m12 E12 hw => ?_))
  have hw := hw E12
  refine x_callV HE dX5_person_15 rfl (fun l => k_X5_known ((EB.tr E12).tag f0 (by decide)) l hw) (As := [iV r12]) (rest := []) rfl xc20 ((EB.tr E12).tag f0 (by decide)) (lw_V q1025 q1027 qs20 q130 q1028) hy_X5_known rfl rfl (Nat.le_of_ble_eq_true rfl) (Nat.le_of_ble_eq_true rfl) (Nat.le_of_ble_eq_true rfl) (kkI (fun r15 m15 E15 hw => ?_))
  have hw := hw E15
  refine x_istore_n HE 1 (lo' := [some (rV x0), some (iV r15)]) dX5_person_18 rfl (Nat.le_of_ble_eq_true rfl) rfl ?_
  refine x_aload_n HE 0 dX5_person_19 rfl rfl ?_
  refine x_callV HE dX5_person_20 rfl (fun l => k_X5_on ((EB.tr (E12.tr E15)).tag f0 (by decide)) l hw) (As := []) (rest := []) rfl xc20 ((EB.tr (E12.tr E15)).tag f0 (by decide)) (lw_V q679 q681 qs6 q130 q682) hy_X5_on rfl rfl (Nat.le_of_ble_eq_true rfl) (Nat.le_of_ble_eq_true rfl) (Nat.le_of_ble_eq_true rfl) (kkV (fun m20 E20 hw => ?_))
  have hw := hw E20
  refine x_iload_n HE 1 dX5_person_23 rfl rfl ?_
  exact x_iret HE hr dX5_person_24 hw
theorem k_X5_person {G : GT} {x0 : Int} {Q : Int → Hp → Prop} {h : Hp} (f0 : hT h x0 = 20) (l : Launch) (hw : g_X5_person x0 Q h) : XM G l yX5_person cX5_person 2 (some .int) 8 213 [rV x0] (QI Q) h :=
  XM.of (by decide) (Nat.le_of_ble_eq_true rfl) (fun X HE hr hn => w_X5_person_0 HE hr f0 hw)
def g_X5_says_b101 (x0 : Int) (Q : Hp → Prop) (h : Hp) : Prop :=
  Q h
theorem w_X5_says_101 {G : GT} {X : ET} {h0 : Hp} {x0 : Int} (HE : XE G X cX5_says 4 RX5 9 235 h0) (hr : XR X none) (f0 : hT h0 x0 = 20) {Q : Hp → Prop} {h : Hp} (hw : g_X5_says_b101 x0 Q  h) : Wx G X h0 (QV Q) h 101 [some (rV x0), none, none, none] [] := by
  refine Wx.start (fun EB => ?_)
  unfold g_X5_says_b101 at hw
  exact x_vret HE hr dX5_says_101 hw
def g_X5_says_b69 (x0 : Int) (Q : Hp → Prop) (l1 l2 l3 : Int) (h : Hp) : Prop :=
  g_X5_on x0 (fun m70 => Ext h m70 → (g_X5_isOver x0 (fun r74 m74 => Ext m70 m74 → (((r74 ≠ 0) → (g_X5_says_b101 x0 Q m74)) ∧ ((r74 = 0) → ((Lay_X7 m74 (hF m74 x0 1)) ∧ ((capOK m74 3) ∧ (∀ (a87 : Int) (m87 : Hp), a87 = hN m74 → m87 = alloc m74 17 0 3 → WFa m74 → (g_X20_init a87 l1 l2 l3 (fun m94 => Ext m87 m94 → (g_J2_add ((hF m74 x0 1) + 4) a87 (fun r97 m97 => Ext m94 m97 → (g_X5_says_b101 x0 Q m97)) m94)) m87))))))) m70)) h
theorem w_X5_says_69 {G : GT} {X : ET} {h0 : Hp} {x0 : Int} (HE : XE G X cX5_says 4 RX5 9 235 h0) (hr : XR X none) (f0 : hT h0 x0 = 20) {Q : Hp → Prop} {l1 l2 l3 : Int} {h : Hp} (hw : g_X5_says_b69 x0 Q l1 l2 l3 h) : Wx G X h0 (QV Q) h 69 [some (rV x0), some (iV l1), some (iV l2), some (iV l3)] [] := by
  refine Wx.start (fun EB => ?_)
  unfold g_X5_says_b69 at hw
  refine x_aload_n HE 0 dX5_says_69 rfl rfl ?_
  refine x_callV HE dX5_says_70 rfl (fun l => k_X5_on (EB.tag f0 (by decide)) l hw) (As := []) (rest := []) rfl xc20 (EB.tag f0 (by decide)) (lw_V q679 q681 qs6 q130 q682) hy_X5_on rfl rfl (Nat.le_of_ble_eq_true rfl) (Nat.le_of_ble_eq_true rfl) (Nat.le_of_ble_eq_true rfl) (kkV (fun m70 E70 hw => ?_))
  have hw := hw E70
  refine x_aload_n HE 0 dX5_says_73 rfl rfl ?_
  refine x_callV HE dX5_says_74 rfl (fun l => k_X5_isOver ((EB.tr E70).tag f0 (by decide)) l hw) (As := []) (rest := []) rfl xc20 ((EB.tr E70).tag f0 (by decide)) (lw_V q675 q677 qs5 q130 q678) hy_X5_isOver rfl rfl (Nat.le_of_ble_eq_true rfl) (Nat.le_of_ble_eq_true rfl) (Nat.le_of_ble_eq_true rfl) (kkI (fun r74 m74 E74 hw => ?_))
  have hw := hw E74
  refine x_if_ne HE 101 dX5_says_77 (by decide) (fun c77 => ?_) (fun c77 => ?_)
  · have hw := hw.1 c77
    refine Wx.mask [true, false, false, false] (lo2 := [some (rV x0), none, none, none]) rfl ?_
    exact w_X5_says_101 HE hr f0 hw
  · have hw := hw.2 c77
    refine x_aload_n HE 0 dX5_says_80 rfl rfl ?_
    refine x_gR HE dX5_says_81 fd_X5_1 q574 (Or.inl rfl) ((EB.tr (E70.tr E74)).tag f0 (by decide)) rfl ?_
    obtain ⟨v84, hw⟩ := hw
    refine x_gR HE dX5_says_84 fd_X7_6 q334 (Or.inl rfl) (Lay_X7.tag v84) (Lay_X7_6 v84).1 ?_
    obtain ⟨v87, hw⟩ := hw
    refine x_newN HE dX5_says_87 xc17 (by decide) (nro (by decide)) q1053 q1054 q156 v87 (fun a87 m87 ea87 em87 E87 w87 => ?_)
    have hw := hw a87 m87 ea87 em87 w87
    have t87 := alloc_tag ea87 em87
    refine x_dup HE dX5_says_90 (fun o => o) ?_
    refine x_iload_n HE 1 dX5_says_91 rfl rfl ?_
    refine x_iload_n HE 2 dX5_says_92 rfl rfl ?_
    refine x_iload_n HE 3 dX5_says_93 rfl rfl ?_
    refine Wx.wf (fun wf94 => ?_)
    refine x_callI HE dX5_says_94 rfl (fun l => k_X20_init t87 l hw) (As := [iV l1, iV l2, iV l3]) (rest := [rV a87, rV ((hF m74 x0 1) + 4)]) rfl (tag_pos wf94 t87 (by decide)) q1055 q156 q1056 q1057 rfl hy_X20_init.2 rfl rfl (Nat.le_of_ble_eq_true rfl) (Nat.le_of_ble_eq_true rfl) (Nat.le_of_ble_eq_true rfl) (kkV (fun m94 E94 hw => ?_))
    have hw := hw E94
    refine x_callV HE dX5_says_97 rfl (fun l => k_J2_add ((Lay_X7_6 (v84.ext (E87.tr E94))).2) l hw) (As := [rV a87]) (rest := []) rfl xc32 ((Lay_X7_6 (v84.ext (E87.tr E94))).2) (lw_V q783 q784 q785 q128 q786) hy_J2_add rfl rfl (Nat.le_of_ble_eq_true rfl) (Nat.le_of_ble_eq_true rfl) (Nat.le_of_ble_eq_true rfl) (kkI (fun r97 m97 E97 hw => ?_))
    have hw := hw E97
    refine x_pop HE dX5_says_100 (fun o => o) ?_
    refine Wx.mask [true, false, false, false] (lo2 := [some (rV x0), none, none, none]) rfl ?_
    exact w_X5_says_101 HE hr f0 hw
def g_X5_says (x0 : Int) (Q : Hp → Prop) (h : Hp) : Prop :=
  (Lay_X7 h (hF h x0 1)) ∧ (g_J2_size ((hF h x0 1) + 4) (fun r8 m8 => Ext h m8 → (g_X5_begins x0 r8 8 (fun m13 => Ext m8 m13 → (g_X5_person x0 (fun r17 m17 => Ext m13 m17 → (g_X5_person x0 (fun r22 m22 => Ext m17 m22 → (g_X5_needs x0 (hF m22 0 31) (fun m30 => Ext m22 m30 → ((hT m30 (hF m30 x0 2) = 18) ∧ ((Lay_X7 m30 (hF m30 x0 1)) ∧ (g_X7_person (hF m30 x0 1) (hF m30 (hF m30 x0 2) 3) (fun r45 m45 => Ext m30 m45 → (g_X5_known x0 r45 (fun r48 m48 => Ext m45 m48 → (g_X5_isOver x0 (fun r53 m53 => Ext m48 m53 → (((r53 ≠ 0) → (g_X5_says_b69 x0 Q r17 r22 r48 m53)) ∧ ((r53 = 0) → (((r22 ≠ r48) → (g_X5_says_b69 x0 Q r17 r22 r48 m53)) ∧ ((r22 = r48) → (g_X5_wrong x0 3 (fun m66 => Ext m53 m66 → (g_X5_says_b69 x0 Q r17 r22 r48 m66)) m53)))))) m48)) m45)) m30)))) m22)) m17)) m13)) m8)) h)
theorem w_X5_says_0 {G : GT} {X : ET} {h0 : Hp} {x0 : Int} (HE : XE G X cX5_says 4 RX5 9 235 h0) (hr : XR X none) (f0 : hT h0 x0 = 20) {Q : Hp → Prop} {h : Hp} (hw : g_X5_says x0 Q h) : Wx G X h0 (QV Q) h 0 [some (rV x0), none, none, none] [] := by
  refine Wx.start (fun EB => ?_)
  unfold g_X5_says at hw
  refine x_aload_n HE 0 dX5_says_0 rfl rfl ?_
  refine x_aload_n HE 0 dX5_says_1 rfl rfl ?_
  refine x_gR HE dX5_says_2 fd_X5_1 q574 (Or.inl rfl) (EB.tag f0 (by decide)) rfl ?_
  obtain ⟨v5, hw⟩ := hw
  refine x_gR HE dX5_says_5 fd_X7_6 q334 (Or.inl rfl) (Lay_X7.tag v5) (Lay_X7_6 v5).1 ?_
  refine x_callV HE dX5_says_8 rfl (fun l => k_J2_size ((Lay_X7_6 v5).2) l hw) (As := []) (rest := [rV x0]) rfl xc32 ((Lay_X7_6 v5).2) (lw_V q707 q708 q709 q128 q710) hy_J2_size rfl rfl (Nat.le_of_ble_eq_true rfl) (Nat.le_of_ble_eq_true rfl) (Nat.le_of_ble_eq_true rfl) (kkI (fun r8 m8 E8 hw => ?_))
  have hw := hw E8
  refine x_bipush HE dX5_says_11 (by decide) ?_
  refine x_callV HE dX5_says_13 rfl (fun l => k_X5_begins ((EB.tr E8).tag f0 (by decide)) l hw) (As := [iV r8, iV 8]) (rest := []) rfl xc20 ((EB.tr E8).tag f0 (by decide)) (lw_V q711 q713 qs11 q130 q714) hy_X5_begins rfl rfl (Nat.le_of_ble_eq_true rfl) (Nat.le_of_ble_eq_true rfl) (Nat.le_of_ble_eq_true rfl) (kkV (fun m13 E13 hw => ?_))
  have hw := hw E13
  refine x_aload_n HE 0 dX5_says_16 rfl rfl ?_
  refine x_callV HE dX5_says_17 rfl (fun l => k_X5_person ((EB.tr (E8.tr E13)).tag f0 (by decide)) l hw) (As := []) (rest := []) rfl xc20 ((EB.tr (E8.tr E13)).tag f0 (by decide)) (lw_V q1048 q1050 qs24 q130 q1051) hy_X5_person rfl rfl (Nat.le_of_ble_eq_true rfl) (Nat.le_of_ble_eq_true rfl) (Nat.le_of_ble_eq_true rfl) (kkI (fun r17 m17 E17 hw => ?_))
  have hw := hw E17
  refine x_istore_n HE 1 (lo' := [some (rV x0), some (iV r17), none, none]) dX5_says_20 rfl (Nat.le_of_ble_eq_true rfl) rfl ?_
  refine x_aload_n HE 0 dX5_says_21 rfl rfl ?_
  refine x_callV HE dX5_says_22 rfl (fun l => k_X5_person ((EB.tr (E8.tr (E13.tr E17))).tag f0 (by decide)) l hw) (As := []) (rest := []) rfl xc20 ((EB.tr (E8.tr (E13.tr E17))).tag f0 (by decide)) (lw_V q1048 q1050 qs24 q130 q1051) hy_X5_person rfl rfl (Nat.le_of_ble_eq_true rfl) (Nat.le_of_ble_eq_true rfl) (Nat.le_of_ble_eq_true rfl) (kkI (fun r22 m22 E22 hw => ?_))
  have hw := hw E22
  refine x_istore_n HE 2 (lo' := [some (rV x0), some (iV r17), some (iV r22), none]) dX5_says_25 rfl (Nat.le_of_ble_eq_true rfl) rfl ?_
  refine x_aload_n HE 0 dX5_says_26 rfl rfl ?_
  refine x_ldcwS (k := 30) HE dX5_says_27 (List.mem_of_getElem? (i := 37) rfl) (fun hp27 => ?_)
  refine x_callV HE dX5_says_30 rfl (fun l => k_X5_needs ((EB.tr (E8.tr (E13.tr (E17.tr E22)))).tag f0 (by decide)) l hw) (As := [rV (hF m22 0 31)]) (rest := []) rfl xc20 ((EB.tr (E8.tr (E13.tr (E17.tr E22)))).tag f0 (by decide)) (lw_V q688 q690 qs8 q130 q691) hy_X5_needs rfl rfl (Nat.le_of_ble_eq_true rfl) (Nat.le_of_ble_eq_true rfl) (Nat.le_of_ble_eq_true rfl) (kkV (fun m30 E30 hw => ?_))
  have hw := hw E30
  refine x_aload_n HE 0 dX5_says_33 rfl rfl ?_
  refine x_aload_n HE 0 dX5_says_34 rfl rfl ?_
  refine x_gR HE dX5_says_35 fd_X5_1 q574 (Or.inl rfl) ((EB.tr (E8.tr (E13.tr (E17.tr (E22.tr E30))))).tag f0 (by decide)) rfl ?_
  refine x_aload_n HE 0 dX5_says_38 rfl rfl ?_
  refine x_gR HE dX5_says_39 fd_X5_2 q575 (Or.inl rfl) ((EB.tr (E8.tr (E13.tr (E17.tr (E22.tr E30))))).tag f0 (by decide)) rfl ?_
  obtain ⟨v42, hw⟩ := hw
  refine x_gR HE dX5_says_42 fd_X8_3 q373 (Or.inl rfl) v42 rfl ?_
  obtain ⟨u45_0, hw⟩ := hw
  refine x_callV HE dX5_says_45 rfl (fun l => k_X7_person u45_0 l hw) (As := [rV (hF m30 (hF m30 x0 2) 3)]) (rest := [rV x0]) rfl xc12 (Lay_X7.tag u45_0) (lw_V q1041 q755 q756 q132 q757) hy_X7_person rfl rfl (Nat.le_of_ble_eq_true rfl) (Nat.le_of_ble_eq_true rfl) (Nat.le_of_ble_eq_true rfl) (kkI (fun r45 m45 E45 hw => ?_))
  have hw := hw E45
  refine x_callV HE dX5_says_48 rfl (fun l => k_X5_known ((EB.tr (E8.tr (E13.tr (E17.tr (E22.tr (E30.tr E45)))))).tag f0 (by decide)) l hw) (As := [iV r45]) (rest := []) rfl xc20 ((EB.tr (E8.tr (E13.tr (E17.tr (E22.tr (E30.tr E45)))))).tag f0 (by decide)) (lw_V q1025 q1027 qs20 q130 q1028) hy_X5_known rfl rfl (Nat.le_of_ble_eq_true rfl) (Nat.le_of_ble_eq_true rfl) (Nat.le_of_ble_eq_true rfl) (kkI (fun r48 m48 E48 hw => ?_))
  have hw := hw E48
  refine x_istore_n HE 3 (lo' := [some (rV x0), some (iV r17), some (iV r22), some (iV r48)]) dX5_says_51 rfl (Nat.le_of_ble_eq_true rfl) rfl ?_
  refine x_aload_n HE 0 dX5_says_52 rfl rfl ?_
  refine x_callV HE dX5_says_53 rfl (fun l => k_X5_isOver ((EB.tr (E8.tr (E13.tr (E17.tr (E22.tr (E30.tr (E45.tr E48))))))).tag f0 (by decide)) l hw) (As := []) (rest := []) rfl xc20 ((EB.tr (E8.tr (E13.tr (E17.tr (E22.tr (E30.tr (E45.tr E48))))))).tag f0 (by decide)) (lw_V q675 q677 qs5 q130 q678) hy_X5_isOver rfl rfl (Nat.le_of_ble_eq_true rfl) (Nat.le_of_ble_eq_true rfl) (Nat.le_of_ble_eq_true rfl) (kkI (fun r53 m53 E53 hw => ?_))
  have hw := hw E53
  refine x_if_ne HE 69 dX5_says_56 (by decide) (fun c56 => ?_) (fun c56 => ?_)
  · have hw := hw.1 c56
    exact w_X5_says_69 HE hr f0 hw
  · have hw := hw.2 c56
    refine x_iload_n HE 2 dX5_says_59 rfl rfl ?_
    refine x_iload_n HE 3 dX5_says_60 rfl rfl ?_
    refine x_ic_ne HE 69 dX5_says_61 (by decide) (fun c61 => ?_) (fun c61 => ?_)
    · have hw := hw.1 c61
      exact w_X5_says_69 HE hr f0 hw
    · have hw := hw.2 c61
      refine x_aload_n HE 0 dX5_says_64 rfl rfl ?_
      refine x_iconst HE dX5_says_65 (by decide) ?_
      refine x_callV HE dX5_says_66 rfl (fun l => k_X5_wrong ((EB.tr (E8.tr (E13.tr (E17.tr (E22.tr (E30.tr (E45.tr (E48.tr E53)))))))).tag f0 (by decide)) l hw) (As := [iV 3]) (rest := []) rfl xc20 ((EB.tr (E8.tr (E13.tr (E17.tr (E22.tr (E30.tr (E45.tr (E48.tr E53)))))))).tag f0 (by decide)) (lw_V q671 q673 qs4 q130 q674) hy_X5_wrong rfl rfl (Nat.le_of_ble_eq_true rfl) (Nat.le_of_ble_eq_true rfl) (Nat.le_of_ble_eq_true rfl) (kkV (fun m66 E66 hw => ?_))
      have hw := hw E66
      exact w_X5_says_69 HE hr f0 hw
theorem k_X5_says {G : GT} {x0 : Int} {Q : Hp → Prop} {h : Hp} (f0 : hT h x0 = 20) (l : Launch) (hw : g_X5_says x0 Q h) : XM G l yX5_says cX5_says 4 none 9 235 [rV x0] (QV Q) h :=
  XM.of (by decide) (Nat.le_of_ble_eq_true rfl) (fun X HE hr hn => w_X5_says_0 HE hr f0 hw)
def g_X5_line_b255 (x0 : Int) (Q : Hp → Prop) (h : Hp) : Prop :=
  Q h
theorem w_X5_line_255 {G : GT} {X : ET} {h0 : Hp} {x0 : Int} (HE : XE G X cX5_line 3 RX5 11 283 h0) (hr : XR X none) (f0 : hT h0 x0 = 20) {Q : Hp → Prop} {h : Hp} (hw : g_X5_line_b255 x0 Q  h) : Wx G X h0 (QV Q) h 255 [some (rV x0), none, none] [] := by
  refine Wx.start (fun EB => ?_)
  unfold g_X5_line_b255 at hw
  exact x_vret HE hr dX5_line_255 hw
def g_X5_line_b169 (x0 : Int) (Q : Hp → Prop) (l2 : Int) (h : Hp) : Prop :=
  ((l2 = 0) → (g_X5_houseLine x0 (fun m209 => Ext h m209 → (g_X5_line_b255 x0 Q m209)) h)) ∧ ((l2 = 1) → (g_X5_drink x0 (fun m216 => Ext h m216 → (g_X5_line_b255 x0 Q m216)) h)) ∧ ((l2 = 2) → (g_X5_staff x0 (fun m223 => Ext h m223 → (g_X5_line_b255 x0 Q m223)) h)) ∧ ((l2 = 3) → (g_X5_personLine x0 (fun m230 => Ext h m230 → (g_X5_line_b255 x0 Q m230)) h)) ∧ ((l2 = 4) → (g_X5_shelf x0 (fun m237 => Ext h m237 → (g_X5_line_b255 x0 Q m237)) h)) ∧ ((l2 = 5) → (g_X5_says x0 (fun m244 => Ext h m244 → (g_X5_line_b255 x0 Q m244)) h)) ∧ ((l2 ≠ 0 ∧ l2 ≠ 1 ∧ l2 ≠ 2 ∧ l2 ≠ 3 ∧ l2 ≠ 4 ∧ l2 ≠ 5) → (g_X5_wrong x0 1 (fun m252 => Ext h m252 → (g_X5_line_b255 x0 Q m252)) h))
theorem w_X5_line_169 {G : GT} {X : ET} {h0 : Hp} {x0 : Int} (HE : XE G X cX5_line 3 RX5 11 283 h0) (hr : XR X none) (f0 : hT h0 x0 = 20) {Q : Hp → Prop} {l2 : Int} {h : Hp} (hw : g_X5_line_b169 x0 Q l2 h) : Wx G X h0 (QV Q) h 169 [some (rV x0), none, some (iV l2)] [] := by
  refine Wx.start (fun EB => ?_)
  unfold g_X5_line_b169 at hw
  refine x_iload_n HE 2 dX5_line_169 rfl rfl ?_
  by_cases s170_0 : l2 = 0
  · have hw := hw.1 s170_0
    refine x_tabIn HE 208 dX5_line_170 0 s170_0 (by decide) rfl (by decide) ?_
    refine x_aload_n HE 0 dX5_line_208 rfl rfl ?_
    refine x_callV HE dX5_line_209 rfl (fun l => k_X5_houseLine (EB.tag f0 (by decide)) l hw) (As := []) (rest := []) rfl xc20 (EB.tag f0 (by decide)) (lw_V q667 q669 qs3 q130 q670) hy_X5_houseLine rfl rfl (Nat.le_of_ble_eq_true rfl) (Nat.le_of_ble_eq_true rfl) (Nat.le_of_ble_eq_true rfl) (kkV (fun m209 E209 hw => ?_))
    have hw := hw E209
    refine x_goto HE 255 dX5_line_212 (by decide) ?_
    refine Wx.mask [true, true, false] (lo2 := [some (rV x0), none, none]) rfl ?_
    exact w_X5_line_255 HE hr f0 hw
  have hw := hw.2
  by_cases s170_1 : l2 = 1
  · have hw := hw.1 s170_1
    refine x_tabIn HE 215 dX5_line_170 1 s170_1 (by decide) rfl (by decide) ?_
    refine x_aload_n HE 0 dX5_line_215 rfl rfl ?_
    refine x_callV HE dX5_line_216 rfl (fun l => k_X5_drink (EB.tag f0 (by decide)) l hw) (As := []) (rest := []) rfl xc20 (EB.tag f0 (by decide)) (lw_V q703 q705 qs10 q130 q706) hy_X5_drink rfl rfl (Nat.le_of_ble_eq_true rfl) (Nat.le_of_ble_eq_true rfl) (Nat.le_of_ble_eq_true rfl) (kkV (fun m216 E216 hw => ?_))
    have hw := hw E216
    refine x_goto HE 255 dX5_line_219 (by decide) ?_
    refine Wx.mask [true, true, false] (lo2 := [some (rV x0), none, none]) rfl ?_
    exact w_X5_line_255 HE hr f0 hw
  have hw := hw.2
  by_cases s170_2 : l2 = 2
  · have hw := hw.1 s170_2
    refine x_tabIn HE 222 dX5_line_170 2 s170_2 (by decide) rfl (by decide) ?_
    refine x_aload_n HE 0 dX5_line_222 rfl rfl ?_
    refine x_callV HE dX5_line_223 rfl (fun l => k_X5_staff (EB.tag f0 (by decide)) l hw) (As := []) (rest := []) rfl xc20 (EB.tag f0 (by decide)) (lw_V q842 q844 qs16 q130 q845) hy_X5_staff rfl rfl (Nat.le_of_ble_eq_true rfl) (Nat.le_of_ble_eq_true rfl) (Nat.le_of_ble_eq_true rfl) (kkV (fun m223 E223 hw => ?_))
    have hw := hw E223
    refine x_goto HE 255 dX5_line_226 (by decide) ?_
    refine Wx.mask [true, true, false] (lo2 := [some (rV x0), none, none]) rfl ?_
    exact w_X5_line_255 HE hr f0 hw
  have hw := hw.2
  by_cases s170_3 : l2 = 3
  · have hw := hw.1 s170_3
    refine x_tabIn HE 229 dX5_line_170 3 s170_3 (by decide) rfl (by decide) ?_
    refine x_aload_n HE 0 dX5_line_229 rfl rfl ?_
    refine x_callV HE dX5_line_230 rfl (fun l => k_X5_personLine (EB.tag f0 (by decide)) l hw) (As := []) (rest := []) rfl xc20 (EB.tag f0 (by decide)) (lw_V q940 q942 qs18 q130 q943) hy_X5_personLine rfl rfl (Nat.le_of_ble_eq_true rfl) (Nat.le_of_ble_eq_true rfl) (Nat.le_of_ble_eq_true rfl) (kkV (fun m230 E230 hw => ?_))
    have hw := hw E230
    refine x_goto HE 255 dX5_line_233 (by decide) ?_
    refine Wx.mask [true, true, false] (lo2 := [some (rV x0), none, none]) rfl ?_
    exact w_X5_line_255 HE hr f0 hw
  have hw := hw.2
  by_cases s170_4 : l2 = 4
  · have hw := hw.1 s170_4
    refine x_tabIn HE 236 dX5_line_170 4 s170_4 (by decide) rfl (by decide) ?_
    refine x_aload_n HE 0 dX5_line_236 rfl rfl ?_
    refine x_callV HE dX5_line_237 rfl (fun l => k_X5_shelf (EB.tag f0 (by decide)) l hw) (As := []) (rest := []) rfl xc20 (EB.tag f0 (by decide)) (lw_V q1037 q1039 qs22 q130 q1040) hy_X5_shelf rfl rfl (Nat.le_of_ble_eq_true rfl) (Nat.le_of_ble_eq_true rfl) (Nat.le_of_ble_eq_true rfl) (kkV (fun m237 E237 hw => ?_))
    have hw := hw E237
    refine x_goto HE 255 dX5_line_240 (by decide) ?_
    refine Wx.mask [true, true, false] (lo2 := [some (rV x0), none, none]) rfl ?_
    exact w_X5_line_255 HE hr f0 hw
  have hw := hw.2
  by_cases s170_5 : l2 = 5
  · have hw := hw.1 s170_5
    refine x_tabIn HE 243 dX5_line_170 5 s170_5 (by decide) rfl (by decide) ?_
    refine x_aload_n HE 0 dX5_line_243 rfl rfl ?_
    refine x_callV HE dX5_line_244 rfl (fun l => k_X5_says (EB.tag f0 (by decide)) l hw) (As := []) (rest := []) rfl xc20 (EB.tag f0 (by decide)) (lw_V q1044 q1046 qs23 q130 q1047) hy_X5_says rfl rfl (Nat.le_of_ble_eq_true rfl) (Nat.le_of_ble_eq_true rfl) (Nat.le_of_ble_eq_true rfl) (kkV (fun m244 E244 hw => ?_))
    have hw := hw E244
    refine x_goto HE 255 dX5_line_247 (by decide) ?_
    refine Wx.mask [true, true, false] (lo2 := [some (rV x0), none, none]) rfl ?_
    exact w_X5_line_255 HE hr f0 hw
  have hw := hw.2
  have hw := hw ⟨s170_0, s170_1, s170_2, s170_3, s170_4, s170_5⟩
  refine x_tabOut HE 250 dX5_line_170 (tabE (tabS (b := 6) (tabS (b := 5) (tabS (b := 4) (tabS (b := 3) (tabS (b := 2) (tabS (b := 1) (Int.lt_or_le l2 0) (by decide) s170_0) (by decide) s170_1) (by decide) s170_2) (by decide) s170_3) (by decide) s170_4) (by decide) s170_5) (by decide)) (by decide) ?_
  refine x_aload_n HE 0 dX5_line_250 rfl rfl ?_
  refine x_iconst HE dX5_line_251 (by decide) ?_
  refine x_callV HE dX5_line_252 rfl (fun l => k_X5_wrong (EB.tag f0 (by decide)) l hw) (As := [iV 1]) (rest := []) rfl xc20 (EB.tag f0 (by decide)) (lw_V q671 q673 qs4 q130 q674) hy_X5_wrong rfl rfl (Nat.le_of_ble_eq_true rfl) (Nat.le_of_ble_eq_true rfl) (Nat.le_of_ble_eq_true rfl) (kkV (fun m252 E252 hw => ?_))
  have hw := hw E252
  refine Wx.mask [true, true, false] (lo2 := [some (rV x0), none, none]) rfl ?_
  exact w_X5_line_255 HE hr f0 hw
def g_X5_line_b23 (x0 : Int) (Q : Hp → Prop) (s0 : Int) (h : Hp) : Prop :=
  (Strg h s0) ∧ (g_J5_hashCode s0 (fun r27 m27 => Ext h m27 → (((r27 = (-991716523)) → (g_J5_equals s0 (hF m27 0 7) (fun r133 m133 => Ext m27 m133 → (((r133 = 0) → (g_X5_line_b169 x0 Q (-1) m133)) ∧ ((r133 ≠ 0) → (g_X5_line_b169 x0 Q 3 m133)))) m27)) ∧ ((r27 = 3523048) → (g_J5_equals s0 (hF m27 0 9) (fun r161 m161 => Ext m27 m161 → (((r161 = 0) → (g_X5_line_b169 x0 Q (-1) m161)) ∧ ((r161 ≠ 0) → (g_X5_line_b169 x0 Q 5 m161)))) m27)) ∧ ((r27 = 95852696) → (g_J5_equals s0 (hF m27 0 5) (fun r105 m105 => Ext m27 m105 → (((r105 = 0) → (g_X5_line_b169 x0 Q (-1) m105)) ∧ ((r105 ≠ 0) → (g_X5_line_b169 x0 Q 1 m105)))) m27)) ∧ ((r27 = 99469088) → (g_J5_equals s0 (hF m27 0 2) (fun r91 m91 => Ext m27 m91 → (((r91 = 0) → (g_X5_line_b169 x0 Q (-1) m91)) ∧ ((r91 ≠ 0) → (g_X5_line_b169 x0 Q 0 m91)))) m27)) ∧ ((r27 = 109403690) → (g_J5_equals s0 (hF m27 0 8) (fun r147 m147 => Ext m27 m147 → (((r147 = 0) → (g_X5_line_b169 x0 Q (-1) m147)) ∧ ((r147 ≠ 0) → (g_X5_line_b169 x0 Q 4 m147)))) m27)) ∧ ((r27 = 109757152) → (g_J5_equals s0 (hF m27 0 6) (fun r119 m119 => Ext m27 m119 → (((r119 = 0) → (g_X5_line_b169 x0 Q (-1) m119)) ∧ ((r119 ≠ 0) → (g_X5_line_b169 x0 Q 2 m119)))) m27)) ∧ ((r27 ≠ (-991716523) ∧ r27 ≠ 3523048 ∧ r27 ≠ 95852696 ∧ r27 ≠ 99469088 ∧ r27 ≠ 109403690 ∧ r27 ≠ 109757152) → (g_X5_line_b169 x0 Q (-1) m27)))) h)
theorem w_X5_line_23 {G : GT} {X : ET} {h0 : Hp} {x0 : Int} (HE : XE G X cX5_line 3 RX5 11 283 h0) (hr : XR X none) (f0 : hT h0 x0 = 20) {Q : Hp → Prop} {s0 : Int} {h : Hp} (hw : g_X5_line_b23 x0 Q s0 h) : Wx G X h0 (QV Q) h 23 [some (rV x0), none, none] [rV s0] := by
  refine Wx.start (fun EB => ?_)
  unfold g_X5_line_b23 at hw
  refine x_astore_n HE 1 (lo' := [some (rV x0), some (rV s0), none]) dX5_line_23 rfl (Nat.le_of_ble_eq_true rfl) rfl ?_
  refine x_iconst HE dX5_line_24 (by decide) ?_
  refine x_istore_n HE 2 (lo' := [some (rV x0), some (rV s0), some (iV (-1))]) dX5_line_25 rfl (Nat.le_of_ble_eq_true rfl) rfl ?_
  refine x_aload_n HE 1 dX5_line_26 rfl rfl ?_
  obtain ⟨u27_0, hw⟩ := hw
  refine x_callV (t := hT h s0) HE dX5_line_27 rfl (fun l => k_J5_hashCode u27_0 l hw) (As := []) (rest := []) rfl (Strg.xc u27_0) rfl (lw_V q600 q601 q602 q136 q603) hy_J5_hashCode rfl rfl (Nat.le_of_ble_eq_true rfl) (Nat.le_of_ble_eq_true rfl) (Nat.le_of_ble_eq_true rfl) (kkI (fun r27 m27 E27 hw => ?_))
  have hw := hw E27
  by_cases s30_m991716523 : r27 = (-991716523)
  · have hw := hw.1 s30_m991716523
    refine x_lookup (off := 100) HE 130 dX5_line_30 (by decide) ((congrArg (Op.lookupswitch.offset _ _) s30_m991716523).trans (by decide +kernel)) (by decide) ?_
    refine x_aload_n HE 1 dX5_line_130 rfl rfl ?_
    refine x_ldcS (k := 6) HE dX5_line_131 (List.mem_of_getElem? (i := 5) rfl) (fun hp131 => ?_)
    refine x_callV (t := hT m27 s0) HE dX5_line_133 rfl (fun l => k_J5_equals (u27_0.ext E27) l hw) (As := [rV (hF m27 0 7)]) (rest := []) rfl (Strg.xc (u27_0.ext E27)) rfl (lw_V q654 q655 q656 q136 q657) hy_J5_equals rfl rfl (Nat.le_of_ble_eq_true rfl) (Nat.le_of_ble_eq_true rfl) (Nat.le_of_ble_eq_true rfl) (kkI (fun r133 m133 E133 hw => ?_))
    have hw := hw E133
    refine x_if_eq HE 169 dX5_line_136 (by decide) (fun c136 => ?_) (fun c136 => ?_)
    · have hw := hw.1 c136
      refine Wx.mask [true, false, true] (lo2 := [some (rV x0), none, some (iV (-1))]) rfl ?_
      exact w_X5_line_169 HE hr f0 hw
    · have hw := hw.2 c136
      refine x_iconst HE dX5_line_139 (by decide) ?_
      refine x_istore_n HE 2 (lo' := [some (rV x0), some (rV s0), some (iV 3)]) dX5_line_140 rfl (Nat.le_of_ble_eq_true rfl) rfl ?_
      refine x_goto HE 169 dX5_line_141 (by decide) ?_
      refine Wx.mask [true, false, true] (lo2 := [some (rV x0), none, some (iV 3)]) rfl ?_
      exact w_X5_line_169 HE hr f0 hw
  have hw := hw.2
  by_cases s30_3523048 : r27 = 3523048
  · have hw := hw.1 s30_3523048
    refine x_lookup (off := 128) HE 158 dX5_line_30 (by decide) ((congrArg (Op.lookupswitch.offset _ _) s30_3523048).trans (by decide +kernel)) (by decide) ?_
    refine x_aload_n HE 1 dX5_line_158 rfl rfl ?_
    refine x_ldcS (k := 8) HE dX5_line_159 (List.mem_of_getElem? (i := 7) rfl) (fun hp159 => ?_)
    refine x_callV (t := hT m27 s0) HE dX5_line_161 rfl (fun l => k_J5_equals (u27_0.ext E27) l hw) (As := [rV (hF m27 0 9)]) (rest := []) rfl (Strg.xc (u27_0.ext E27)) rfl (lw_V q654 q655 q656 q136 q657) hy_J5_equals rfl rfl (Nat.le_of_ble_eq_true rfl) (Nat.le_of_ble_eq_true rfl) (Nat.le_of_ble_eq_true rfl) (kkI (fun r161 m161 E161 hw => ?_))
    have hw := hw E161
    refine x_if_eq HE 169 dX5_line_164 (by decide) (fun c164 => ?_) (fun c164 => ?_)
    · have hw := hw.1 c164
      refine Wx.mask [true, false, true] (lo2 := [some (rV x0), none, some (iV (-1))]) rfl ?_
      exact w_X5_line_169 HE hr f0 hw
    · have hw := hw.2 c164
      refine x_iconst HE dX5_line_167 (by decide) ?_
      refine x_istore_n HE 2 (lo' := [some (rV x0), some (rV s0), some (iV 5)]) dX5_line_168 rfl (Nat.le_of_ble_eq_true rfl) rfl ?_
      refine Wx.mask [true, false, true] (lo2 := [some (rV x0), none, some (iV 5)]) rfl ?_
      exact w_X5_line_169 HE hr f0 hw
  have hw := hw.2
  by_cases s30_95852696 : r27 = 95852696
  · have hw := hw.1 s30_95852696
    refine x_lookup (off := 72) HE 102 dX5_line_30 (by decide) ((congrArg (Op.lookupswitch.offset _ _) s30_95852696).trans (by decide +kernel)) (by decide) ?_
    refine x_aload_n HE 1 dX5_line_102 rfl rfl ?_
    refine x_ldcS (k := 4) HE dX5_line_103 (List.mem_of_getElem? (i := 3) rfl) (fun hp103 => ?_)
    refine x_callV (t := hT m27 s0) HE dX5_line_105 rfl (fun l => k_J5_equals (u27_0.ext E27) l hw) (As := [rV (hF m27 0 5)]) (rest := []) rfl (Strg.xc (u27_0.ext E27)) rfl (lw_V q654 q655 q656 q136 q657) hy_J5_equals rfl rfl (Nat.le_of_ble_eq_true rfl) (Nat.le_of_ble_eq_true rfl) (Nat.le_of_ble_eq_true rfl) (kkI (fun r105 m105 E105 hw => ?_))
    have hw := hw E105
    refine x_if_eq HE 169 dX5_line_108 (by decide) (fun c108 => ?_) (fun c108 => ?_)
    · have hw := hw.1 c108
      refine Wx.mask [true, false, true] (lo2 := [some (rV x0), none, some (iV (-1))]) rfl ?_
      exact w_X5_line_169 HE hr f0 hw
    · have hw := hw.2 c108
      refine x_iconst HE dX5_line_111 (by decide) ?_
      refine x_istore_n HE 2 (lo' := [some (rV x0), some (rV s0), some (iV 1)]) dX5_line_112 rfl (Nat.le_of_ble_eq_true rfl) rfl ?_
      refine x_goto HE 169 dX5_line_113 (by decide) ?_
      refine Wx.mask [true, false, true] (lo2 := [some (rV x0), none, some (iV 1)]) rfl ?_
      exact w_X5_line_169 HE hr f0 hw
  have hw := hw.2
  by_cases s30_99469088 : r27 = 99469088
  · have hw := hw.1 s30_99469088
    refine x_lookup (off := 58) HE 88 dX5_line_30 (by decide) ((congrArg (Op.lookupswitch.offset _ _) s30_99469088).trans (by decide +kernel)) (by decide) ?_
    refine x_aload_n HE 1 dX5_line_88 rfl rfl ?_
    refine x_ldcS (k := 1) HE dX5_line_89 (List.mem_of_getElem? (i := 2) rfl) (fun hp89 => ?_)
    refine x_callV (t := hT m27 s0) HE dX5_line_91 rfl (fun l => k_J5_equals (u27_0.ext E27) l hw) (As := [rV (hF m27 0 2)]) (rest := []) rfl (Strg.xc (u27_0.ext E27)) rfl (lw_V q654 q655 q656 q136 q657) hy_J5_equals rfl rfl (Nat.le_of_ble_eq_true rfl) (Nat.le_of_ble_eq_true rfl) (Nat.le_of_ble_eq_true rfl) (kkI (fun r91 m91 E91 hw => ?_))
    have hw := hw E91
    refine x_if_eq HE 169 dX5_line_94 (by decide) (fun c94 => ?_) (fun c94 => ?_)
    · have hw := hw.1 c94
      refine Wx.mask [true, false, true] (lo2 := [some (rV x0), none, some (iV (-1))]) rfl ?_
      exact w_X5_line_169 HE hr f0 hw
    · have hw := hw.2 c94
      refine x_iconst HE dX5_line_97 (by decide) ?_
      refine x_istore_n HE 2 (lo' := [some (rV x0), some (rV s0), some (iV 0)]) dX5_line_98 rfl (Nat.le_of_ble_eq_true rfl) rfl ?_
      refine x_goto HE 169 dX5_line_99 (by decide) ?_
      refine Wx.mask [true, false, true] (lo2 := [some (rV x0), none, some (iV 0)]) rfl ?_
      exact w_X5_line_169 HE hr f0 hw
  have hw := hw.2
  by_cases s30_109403690 : r27 = 109403690
  · have hw := hw.1 s30_109403690
    refine x_lookup (off := 114) HE 144 dX5_line_30 (by decide) ((congrArg (Op.lookupswitch.offset _ _) s30_109403690).trans (by decide +kernel)) (by decide) ?_
    refine x_aload_n HE 1 dX5_line_144 rfl rfl ?_
    refine x_ldcS (k := 7) HE dX5_line_145 (List.mem_of_getElem? (i := 6) rfl) (fun hp145 => ?_)
    refine x_callV (t := hT m27 s0) HE dX5_line_147 rfl (fun l => k_J5_equals (u27_0.ext E27) l hw) (As := [rV (hF m27 0 8)]) (rest := []) rfl (Strg.xc (u27_0.ext E27)) rfl (lw_V q654 q655 q656 q136 q657) hy_J5_equals rfl rfl (Nat.le_of_ble_eq_true rfl) (Nat.le_of_ble_eq_true rfl) (Nat.le_of_ble_eq_true rfl) (kkI (fun r147 m147 E147 hw => ?_))
    have hw := hw E147
    refine x_if_eq HE 169 dX5_line_150 (by decide) (fun c150 => ?_) (fun c150 => ?_)
    · have hw := hw.1 c150
      refine Wx.mask [true, false, true] (lo2 := [some (rV x0), none, some (iV (-1))]) rfl ?_
      exact w_X5_line_169 HE hr f0 hw
    · have hw := hw.2 c150
      refine x_iconst HE dX5_line_153 (by decide) ?_
      refine x_istore_n HE 2 (lo' := [some (rV x0), some (rV s0), some (iV 4)]) dX5_line_154 rfl (Nat.le_of_ble_eq_true rfl) rfl ?_
      refine x_goto HE 169 dX5_line_155 (by decide) ?_
      refine Wx.mask [true, false, true] (lo2 := [some (rV x0), none, some (iV 4)]) rfl ?_
      exact w_X5_line_169 HE hr f0 hw
  have hw := hw.2
  by_cases s30_109757152 : r27 = 109757152
  · have hw := hw.1 s30_109757152
    refine x_lookup (off := 86) HE 116 dX5_line_30 (by decide) ((congrArg (Op.lookupswitch.offset _ _) s30_109757152).trans (by decide +kernel)) (by decide) ?_
    refine x_aload_n HE 1 dX5_line_116 rfl rfl ?_
    refine x_ldcS (k := 5) HE dX5_line_117 (List.mem_of_getElem? (i := 4) rfl) (fun hp117 => ?_)
    refine x_callV (t := hT m27 s0) HE dX5_line_119 rfl (fun l => k_J5_equals (u27_0.ext E27) l hw) (As := [rV (hF m27 0 6)]) (rest := []) rfl (Strg.xc (u27_0.ext E27)) rfl (lw_V q654 q655 q656 q136 q657) hy_J5_equals rfl rfl (Nat.le_of_ble_eq_true rfl) (Nat.le_of_ble_eq_true rfl) (Nat.le_of_ble_eq_true rfl) (kkI (fun r119 m119 E119 hw => ?_))
    have hw := hw E119
    refine x_if_eq HE 169 dX5_line_122 (by decide) (fun c122 => ?_) (fun c122 => ?_)
    · have hw := hw.1 c122
      refine Wx.mask [true, false, true] (lo2 := [some (rV x0), none, some (iV (-1))]) rfl ?_
      exact w_X5_line_169 HE hr f0 hw
    · have hw := hw.2 c122
      refine x_iconst HE dX5_line_125 (by decide) ?_
      refine x_istore_n HE 2 (lo' := [some (rV x0), some (rV s0), some (iV 2)]) dX5_line_126 rfl (Nat.le_of_ble_eq_true rfl) rfl ?_
      refine x_goto HE 169 dX5_line_127 (by decide) ?_
      refine Wx.mask [true, false, true] (lo2 := [some (rV x0), none, some (iV 2)]) rfl ?_
      exact w_X5_line_169 HE hr f0 hw
  have hw := hw.2
  have hw := hw ⟨s30_m991716523, s30_3523048, s30_95852696, s30_99469088, s30_109403690, s30_109757152⟩
  refine x_lookup (off := 139) HE 169 dX5_line_30 (by decide) (lsw_off (by simp only [List.mem_cons, List.not_mem_nil, or_false, forall_eq_or_imp, forall_eq]; exact ⟨s30_m991716523, s30_3523048, s30_95852696, s30_99469088, s30_109403690, s30_109757152⟩)) (by decide) ?_
  refine Wx.mask [true, false, true] (lo2 := [some (rV x0), none, some (iV (-1))]) rfl ?_
  exact w_X5_line_169 HE hr f0 hw
def g_X5_line (x0 : Int) (Q : Hp → Prop) (h : Hp) : Prop :=
  (hT h (hF h x0 2) = 18) ∧ ((((hF h (hF h x0 2) 0) ≠ 2) → (g_X5_line_b23 x0 Q (hF h 0 1) h)) ∧ (((hF h (hF h x0 2) 0) = 2) → (g_X5_line_b23 x0 Q (hF h (hF h x0 2) 3) h)))
theorem w_X5_line_0 {G : GT} {X : ET} {h0 : Hp} {x0 : Int} (HE : XE G X cX5_line 3 RX5 11 283 h0) (hr : XR X none) (f0 : hT h0 x0 = 20) {Q : Hp → Prop} {h : Hp} (hw : g_X5_line x0 Q h) : Wx G X h0 (QV Q) h 0 [some (rV x0), none, none] [] := by
  refine Wx.start (fun EB => ?_)
  unfold g_X5_line at hw
  refine x_aload_n HE 0 dX5_line_0 rfl rfl ?_
  refine x_gR HE dX5_line_1 fd_X5_2 q575 (Or.inl rfl) (EB.tag f0 (by decide)) rfl ?_
  obtain ⟨v4, hw⟩ := hw
  refine x_gI HE dX5_line_4 fd_X8_0 q367 (Or.inl rfl) v4 rfl ?_
  refine x_iconst HE dX5_line_7 (by decide) ?_
  refine x_ic_ne HE 21 dX5_line_8 (by decide) (fun c8 => ?_) (fun c8 => ?_)
  · have hw := hw.1 c8
    refine x_ldcS (k := 0) HE dX5_line_21 (List.mem_of_getElem? (i := 1) rfl) (fun hp21 => ?_)
    exact w_X5_line_23 HE hr f0 hw
  · have hw := hw.2 c8
    refine x_aload_n HE 0 dX5_line_11 rfl rfl ?_
    refine x_gR HE dX5_line_12 fd_X5_2 q575 (Or.inl rfl) (EB.tag f0 (by decide)) rfl ?_
    refine x_gR HE dX5_line_15 fd_X8_3 q373 (Or.inl rfl) v4 rfl ?_
    refine x_goto HE 23 dX5_line_18 (by decide) ?_
    exact w_X5_line_23 HE hr f0 hw
theorem k_X5_line {G : GT} {x0 : Int} {Q : Hp → Prop} {h : Hp} (f0 : hT h x0 = 20) (l : Launch) (hw : g_X5_line x0 Q h) : XM G l yX5_line cX5_line 3 none 11 283 [rV x0] (QV Q) h :=
  XM.of (by decide) (Nat.le_of_ble_eq_true rfl) (fun X HE hr hn => w_X5_line_0 HE hr f0 hw)
def g_X5_read_b99 (x0 : Int) (Q : Int → Hp → Prop) (s0 : Int) (h : Hp) : Prop :=
  Q s0 h
theorem w_X5_read_99 {G : GT} {X : ET} {h0 : Hp} {x0 : Int} (HE : XE G X cX5_read 1 RX5 12 305 h0) (hr : XR X (some (.object "NextAtBar$House"))) (f0 : hT h0 x0 = 20) {Q : Int → Hp → Prop} {s0 : Int} {h : Hp} (hw : g_X5_read_b99 x0 Q s0 h) : Wx G X h0 (QR Q) h 99 [some (rV x0)] [rV s0] := by
  refine Wx.start (fun EB => ?_)
  unfold g_X5_read_b99 at hw
  exact x_aret HE hr (Or.inl ⟨_, rfl⟩) dX5_read_99 hw
def g_X5_read_b84 (x0 : Int) (Q : Int → Hp → Prop) (h : Hp) : Prop :=
  g_X5_isOver x0 (fun r85 m85 => Ext h m85 → (((r85 = 0) → (g_X5_read_b99 x0 Q (hF m85 x0 1) m85)) ∧ ((r85 ≠ 0) → (g_X5_read_b99 x0 Q 0 m85)))) h
theorem w_X5_read_84 {G : GT} {X : ET} {h0 : Hp} {x0 : Int} (HE : XE G X cX5_read 1 RX5 12 305 h0) (hr : XR X (some (.object "NextAtBar$House"))) (f0 : hT h0 x0 = 20) {Q : Int → Hp → Prop} {h : Hp} (hw : g_X5_read_b84 x0 Q  h) : Wx G X h0 (QR Q) h 84 [some (rV x0)] [] := by
  refine Wx.start (fun EB => ?_)
  unfold g_X5_read_b84 at hw
  refine x_aload_n HE 0 dX5_read_84 rfl rfl ?_
  refine x_callV HE dX5_read_85 rfl (fun l => k_X5_isOver (EB.tag f0 (by decide)) l hw) (As := []) (rest := []) rfl xc20 (EB.tag f0 (by decide)) (lw_V q675 q677 qs5 q130 q678) hy_X5_isOver rfl rfl (Nat.le_of_ble_eq_true rfl) (Nat.le_of_ble_eq_true rfl) (Nat.le_of_ble_eq_true rfl) (kkI (fun r85 m85 E85 hw => ?_))
  have hw := hw E85
  refine x_if_eq HE 95 dX5_read_88 (by decide) (fun c88 => ?_) (fun c88 => ?_)
  · have hw := hw.1 c88
    refine x_aload_n HE 0 dX5_read_95 rfl rfl ?_
    refine x_gR HE dX5_read_96 fd_X5_1 q574 (Or.inl rfl) ((EB.tr E85).tag f0 (by decide)) rfl ?_
    exact w_X5_read_99 HE hr f0 hw
  · have hw := hw.2 c88
    refine x_null HE dX5_read_91 ?_
    refine x_goto HE 99 dX5_read_92 (by decide) ?_
    exact w_X5_read_99 HE hr f0 hw
def g_X5_read_b78 (x0 : Int) (Q : Int → Hp → Prop) (h : Hp) : Prop :=
  g_X5_wrong x0 6 (fun m81 => Ext h m81 → (g_X5_read_b84 x0 Q m81)) h
theorem w_X5_read_78 {G : GT} {X : ET} {h0 : Hp} {x0 : Int} (HE : XE G X cX5_read 1 RX5 12 305 h0) (hr : XR X (some (.object "NextAtBar$House"))) (f0 : hT h0 x0 = 20) {Q : Int → Hp → Prop} {h : Hp} (hw : g_X5_read_b78 x0 Q  h) : Wx G X h0 (QR Q) h 78 [some (rV x0)] [] := by
  refine Wx.start (fun EB => ?_)
  unfold g_X5_read_b78 at hw
  refine x_aload_n HE 0 dX5_read_78 rfl rfl ?_
  refine x_bipush HE dX5_read_79 (by decide) ?_
  refine x_callV HE dX5_read_81 rfl (fun l => k_X5_wrong (EB.tag f0 (by decide)) l hw) (As := [iV 6]) (rest := []) rfl xc20 (EB.tag f0 (by decide)) (lw_V q671 q673 qs4 q130 q674) hy_X5_wrong rfl rfl (Nat.le_of_ble_eq_true rfl) (Nat.le_of_ble_eq_true rfl) (Nat.le_of_ble_eq_true rfl) (kkV (fun m81 E81 hw => ?_))
  have hw := hw E81
  exact w_X5_read_84 HE hr f0 hw
def g_X5_read_b29 (x0 : Int) (Q : Int → Hp → Prop) (h : Hp) : Prop :=
  (Lay_X7 h (hF h x0 1)) ∧ ((((hF h (hF h x0 1) 0) = 0) → (g_X5_read_b78 x0 Q h)) ∧ (((hF h (hF h x0 1) 0) ≠ 0) → (g_J2_isEmpty ((hF h x0 1) + 1) (fun r46 m46 => Ext h m46 → (((r46 ≠ 0) → (g_X5_read_b78 x0 Q m46)) ∧ ((r46 = 0) → ((Lay_X7 m46 (hF m46 x0 1)) ∧ (g_J2_isEmpty ((hF m46 x0 1) + 2) (fun r59 m59 => Ext m46 m59 → (((r59 ≠ 0) → (g_X5_read_b78 x0 Q m59)) ∧ ((r59 = 0) → ((Lay_X7 m59 (hF m59 x0 1)) ∧ (g_J2_isEmpty ((hF m59 x0 1) + 3) (fun r72 m72 => Ext m59 m72 → (((r72 = 0) → (g_X5_read_b84 x0 Q m72)) ∧ ((r72 ≠ 0) → (g_X5_read_b78 x0 Q m72)))) m59))))) m46))))) h)))
theorem w_X5_read_29 {G : GT} {X : ET} {h0 : Hp} {x0 : Int} (HE : XE G X cX5_read 1 RX5 12 305 h0) (hr : XR X (some (.object "NextAtBar$House"))) (f0 : hT h0 x0 = 20) {Q : Int → Hp → Prop} {h : Hp} (hw : g_X5_read_b29 x0 Q  h) : Wx G X h0 (QR Q) h 29 [some (rV x0)] [] := by
  refine Wx.start (fun EB => ?_)
  unfold g_X5_read_b29 at hw
  refine x_aload_n HE 0 dX5_read_29 rfl rfl ?_
  refine x_gR HE dX5_read_30 fd_X5_1 q574 (Or.inl rfl) (EB.tag f0 (by decide)) rfl ?_
  obtain ⟨v33, hw⟩ := hw
  refine x_gI HE dX5_read_33 fd_X7_0 q313 (Or.inl rfl) (Lay_X7.tag v33) rfl ?_
  refine x_if_eq HE 78 dX5_read_36 (by decide) (fun c36 => ?_) (fun c36 => ?_)
  · have hw := hw.1 c36
    exact w_X5_read_78 HE hr f0 hw
  · have hw := hw.2 c36
    refine x_aload_n HE 0 dX5_read_39 rfl rfl ?_
    refine x_gR HE dX5_read_40 fd_X5_1 q574 (Or.inl rfl) (EB.tag f0 (by decide)) rfl ?_
    refine x_gR HE dX5_read_43 fd_X7_3 q321 (Or.inl rfl) (Lay_X7.tag v33) (Lay_X7_3 v33).1 ?_
    refine x_callV HE dX5_read_46 rfl (fun l => k_J2_isEmpty ((Lay_X7_3 v33).2) l hw) (As := []) (rest := []) rfl xc32 ((Lay_X7_3 v33).2) (lw_V q1074 q1075 q1076 q128 q1077) hy_J2_isEmpty rfl rfl (Nat.le_of_ble_eq_true rfl) (Nat.le_of_ble_eq_true rfl) (Nat.le_of_ble_eq_true rfl) (kkI (fun r46 m46 E46 hw => ?_))
    have hw := hw E46
    refine x_if_ne HE 78 dX5_read_49 (by decide) (fun c49 => ?_) (fun c49 => ?_)
    · have hw := hw.1 c49
      exact w_X5_read_78 HE hr f0 hw
    · have hw := hw.2 c49
      refine x_aload_n HE 0 dX5_read_52 rfl rfl ?_
      refine x_gR HE dX5_read_53 fd_X5_1 q574 (Or.inl rfl) ((EB.tr E46).tag f0 (by decide)) rfl ?_
      obtain ⟨v56, hw⟩ := hw
      refine x_gR HE dX5_read_56 fd_X7_4 q325 (Or.inl rfl) (Lay_X7.tag v56) (Lay_X7_4 v56).1 ?_
      refine x_callV HE dX5_read_59 rfl (fun l => k_J2_isEmpty ((Lay_X7_4 v56).2) l hw) (As := []) (rest := []) rfl xc32 ((Lay_X7_4 v56).2) (lw_V q1074 q1075 q1076 q128 q1077) hy_J2_isEmpty rfl rfl (Nat.le_of_ble_eq_true rfl) (Nat.le_of_ble_eq_true rfl) (Nat.le_of_ble_eq_true rfl) (kkI (fun r59 m59 E59 hw => ?_))
      have hw := hw E59
      refine x_if_ne HE 78 dX5_read_62 (by decide) (fun c62 => ?_) (fun c62 => ?_)
      · have hw := hw.1 c62
        exact w_X5_read_78 HE hr f0 hw
      · have hw := hw.2 c62
        refine x_aload_n HE 0 dX5_read_65 rfl rfl ?_
        refine x_gR HE dX5_read_66 fd_X5_1 q574 (Or.inl rfl) ((EB.tr (E46.tr E59)).tag f0 (by decide)) rfl ?_
        obtain ⟨v69, hw⟩ := hw
        refine x_gR HE dX5_read_69 fd_X7_5 q330 (Or.inl rfl) (Lay_X7.tag v69) (Lay_X7_5 v69).1 ?_
        refine x_callV HE dX5_read_72 rfl (fun l => k_J2_isEmpty ((Lay_X7_5 v69).2) l hw) (As := []) (rest := []) rfl xc32 ((Lay_X7_5 v69).2) (lw_V q1074 q1075 q1076 q128 q1077) hy_J2_isEmpty rfl rfl (Nat.le_of_ble_eq_true rfl) (Nat.le_of_ble_eq_true rfl) (Nat.le_of_ble_eq_true rfl) (kkI (fun r72 m72 E72 hw => ?_))
        have hw := hw E72
        refine x_if_eq HE 84 dX5_read_75 (by decide) (fun c75 => ?_) (fun c75 => ?_)
        · have hw := hw.1 c75
          exact w_X5_read_84 HE hr f0 hw
        · have hw := hw.2 c75
          exact w_X5_read_78 HE hr f0 hw
def g_X5_read_b13 (x0 : Int) (Q : Int → Hp → Prop) (h : Hp) : Prop :=
  (hT h (hF h x0 2) = 18) ∧ ((((hF h (hF h x0 2) 0) = 1) → (g_X5_read_b29 x0 Q h)) ∧ (((hF h (hF h x0 2) 0) ≠ 1) → (g_X5_wrong x0 1 (fun m26 => Ext h m26 → (g_X5_read_b29 x0 Q m26)) h)))
theorem w_X5_read_13 {G : GT} {X : ET} {h0 : Hp} {x0 : Int} (HE : XE G X cX5_read 1 RX5 12 305 h0) (hr : XR X (some (.object "NextAtBar$House"))) (f0 : hT h0 x0 = 20) {Q : Int → Hp → Prop} {h : Hp} (hw : g_X5_read_b13 x0 Q  h) : Wx G X h0 (QR Q) h 13 [some (rV x0)] [] := by
  refine Wx.start (fun EB => ?_)
  unfold g_X5_read_b13 at hw
  refine x_aload_n HE 0 dX5_read_13 rfl rfl ?_
  refine x_gR HE dX5_read_14 fd_X5_2 q575 (Or.inl rfl) (EB.tag f0 (by decide)) rfl ?_
  obtain ⟨v17, hw⟩ := hw
  refine x_gI HE dX5_read_17 fd_X8_0 q367 (Or.inl rfl) v17 rfl ?_
  refine x_iconst HE dX5_read_20 (by decide) ?_
  refine x_ic_eq HE 29 dX5_read_21 (by decide) (fun c21 => ?_) (fun c21 => ?_)
  · have hw := hw.1 c21
    exact w_X5_read_29 HE hr f0 hw
  · have hw := hw.2 c21
    refine x_aload_n HE 0 dX5_read_24 rfl rfl ?_
    refine x_iconst HE dX5_read_25 (by decide) ?_
    refine x_callV HE dX5_read_26 rfl (fun l => k_X5_wrong (EB.tag f0 (by decide)) l hw) (As := [iV 1]) (rest := []) rfl xc20 (EB.tag f0 (by decide)) (lw_V q671 q673 qs4 q130 q674) hy_X5_wrong rfl rfl (Nat.le_of_ble_eq_true rfl) (Nat.le_of_ble_eq_true rfl) (Nat.le_of_ble_eq_true rfl) (kkV (fun m26 E26 hw => ?_))
    have hw := hw E26
    exact w_X5_read_29 HE hr f0 hw
def g_X5_read_L0 (x0 : Int) (Q : Int → Hp → Prop) (K0 : Hp → Prop) (h : Hp) : Prop :=
  g_X5_line x0 (fun m1 => Ext h m1 → (g_X5_eatsSign x0 59 (fun r7 m7 => Ext m1 m7 → (((r7 ≠ 0) → (K0 m7)) ∧ ((r7 = 0) → (g_X5_read_b13 x0 Q m7)))) m1)) h
theorem w_X5_read_0 {G : GT} {X : ET} {h0 : Hp} {x0 : Int} (HE : XE G X cX5_read 1 RX5 12 305 h0) (hr : XR X (some (.object "NextAtBar$House"))) (f0 : hT h0 x0 = 20) {Q : Int → Hp → Prop} {K0 : Hp → Prop} (hK0 : ∀ (h : Hp), K0  h → Wx G X h0 (QR Q) h 0 [some (rV x0)] []) {h : Hp} (hw : g_X5_read_L0 x0 Q K0  h) : Wx G X h0 (QR Q) h 0 [some (rV x0)] [] := by
  refine Wx.start (fun EB => ?_)
  unfold g_X5_read_L0 at hw
  refine x_aload_n HE 0 dX5_read_0 rfl rfl ?_
  refine x_callV HE dX5_read_1 rfl (fun l => k_X5_line (EB.tag f0 (by decide)) l hw) (As := []) (rest := []) rfl xc20 (EB.tag f0 (by decide)) (lw_V q595 q597 qs2 q130 q598) hy_X5_line rfl rfl (Nat.le_of_ble_eq_true rfl) (Nat.le_of_ble_eq_true rfl) (Nat.le_of_ble_eq_true rfl) (kkV (fun m1 E1 hw => ?_))
  have hw := hw E1
  refine x_aload_n HE 0 dX5_read_4 rfl rfl ?_
  refine x_bipush HE dX5_read_5 (by decide) ?_
  refine x_callV HE dX5_read_7 rfl (fun l => k_X5_eatsSign ((EB.tr E1).tag f0 (by decide)) l hw) (As := [iV 59]) (rest := []) rfl xc20 ((EB.tr E1).tag f0 (by decide)) (lw_V q1029 q1031 qs21 q130 q1032) hy_X5_eatsSign rfl rfl (Nat.le_of_ble_eq_true rfl) (Nat.le_of_ble_eq_true rfl) (Nat.le_of_ble_eq_true rfl) (kkI (fun r7 m7 E7 hw => ?_))
  have hw := hw E7
  refine x_if_ne HE 0 dX5_read_10 (by decide) (fun c10 => ?_) (fun c10 => ?_)
  · have hw := hw.1 c10
    exact hK0 _ hw
  · have hw := hw.2 c10
    exact w_X5_read_13 HE hr f0 hw
theorem wl_X5_read_0 {G : GT} {X : ET} {h0 : Hp} {x0 : Int} (HE : XE G X cX5_read 1 RX5 12 305 h0) (hr : XR X (some (.object "NextAtBar$House"))) (f0 : hT h0 x0 = 20) {Q : Int → Hp → Prop} {h : Hp} (hw : Lp0 (g_X5_read_L0 x0 Q)  h) : Wx G X h0 (QR Q) h 0 [some (rV x0)] [] := by
  obtain ⟨n, hw⟩ := hw
  induction n generalizing  h with
  | zero => exact hw.elim
  | succ n ih => exact w_X5_read_0 HE hr f0 (fun _ hk => ih hk) hw
def g_X5_read (x0 : Int) (Q : Int → Hp → Prop) (h : Hp) : Prop := Lp0 (g_X5_read_L0 x0 Q)  h
theorem k_X5_read {G : GT} {x0 : Int} {Q : Int → Hp → Prop} {h : Hp} (f0 : hT h x0 = 20) (l : Launch) (hw : g_X5_read x0 Q h) : XM G l yX5_read cX5_read 1 (some (.object "NextAtBar$House")) 12 305 [rV x0] (QR Q) h :=
  XM.of (by decide) (Nat.le_of_ble_eq_true rfl) (fun X HE hr hn => wl_X5_read_0 HE hr f0 hw)
