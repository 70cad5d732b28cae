/-! written by tools/mkgen2.py -/
set_option maxRecDepth 100000
theorem x_gIM {G : GT} {X : ET} {cc : ByteArray} {nL : Nat} {own : String} {fr lc : Nat} {h0 : Hp} {Q : Option AV → Hp → Prop} {h : Hp} {pc : Nat} {lo : List (Option AV)} {st : List AV} (HE : XE G X cc nL own fr lc h0) {idx : Nat} {a v : Int} (hd : decode cc pc = .ok (.getfield idx, 3))
    (hlink : Cond.fieldLink own idx "NextAtBar$Manne\x72" "by" "I" ∈ lw_all) (ht : hT h a = 23 ∨ hT h a = 24 ∨ hT h a = 25 ∨ hT h a = 26) (hv : hF h a 0 = v)
    (kk : Wx G X h0 Q h (pc + 3) lo (iV v :: st)) : Wx G X h0 Q h pc lo (rV a :: st) := by
  rcases ht with t | t | t | t
  · exact x_gI HE hd fd_X2_0 hlink (Or.inl rfl) t hv kk
  · exact x_gI HE hd fd_X3_0 hlink (Or.inl rfl) t hv kk
  · exact x_gI HE hd fd_X18_0 hlink (Or.inl rfl) t hv kk
  · exact x_gI HE hd fd_X19_0 hlink (Or.inl rfl) t hv kk
def g_X1_init (x0 : Int) (Q : Hp → Prop) (h : Hp) : Prop :=
  (capOK h 1000) ∧ (∀ (a8 : Int) (m8 : Hp), a8 = hN h → m8 = alloc h 2 1000 1000 → WFa h → ((hF m8 x0 0 = 0) ∧ (∀ m10 : Hp, m10 = setF m8 x0 0 a8 → (∀ m15 : Hp, m15 = setF m10 x0 3 (-1) → ((capOK m15 1) ∧ (∀ (a19 : Int) (m19 : Hp), a19 = hN m15 → m19 = alloc m15 23 0 1 → WFa m15 → (g_X2_init a19 0 (fun m24 => Ext m19 m24 → ((hF m24 x0 11 = 0) ∧ (∀ m27 : Hp, m27 = setF m24 x0 11 a19 → ((capOK m27 1) ∧ (∀ (a31 : Int) (m31 : Hp), a31 = hN m27 → m31 = alloc m27 24 0 1 → WFa m27 → (g_X3_init a31 30 (fun m37 => Ext m31 m37 → ((hF m37 x0 12 = 0) ∧ (∀ m40 : Hp, m40 = setF m37 x0 12 a31 → ((capOK m40 3) ∧ (∀ (a44 : Int) (m44 : Hp), a44 = hN m40 → m44 = alloc m40 32 0 3 → WFa m40 → (g_J2_init a44 (fun m48 => Ext m44 m48 → ((hF m48 x0 13 = 0) ∧ (∀ m51 : Hp, m51 = setF m48 x0 13 a44 → ((capOK m51 3) ∧ (∀ (a55 : Int) (m55 : Hp), a55 = hN m51 → m55 = alloc m51 32 0 3 → WFa m51 → (g_J2_init a55 (fun m59 => Ext m55 m59 → ((hF m59 x0 14 = 0) ∧ (∀ m62 : Hp, m62 = setF m59 x0 14 a55 → (Q m62)))) m55)))))) m44)))))) m31)))))) m19)))))))
theorem w_X1_init_0 {G : GT} {X : ET} {h0 : Hp} {x0 : Int} (HE : XE G X cX1_init 1 RX1 4 80 h0) (hr : XR X none) (hn : XN X "<init>") (f0 : hT h0 x0 = 11) {Q : Hp → Prop} {h : Hp} (hw : g_X1_init x0 Q h) : Wx G X h0 (QV Q) h 0 [some (rV x0)] [] := by
  refine Wx.start (fun EB => ?_)
  unfold g_X1_init at hw
  refine x_aload_n HE 0 dX1_init_0 rfl rfl ?_
  refine Wx.wf (fun wf1 => ?_)
  refine x_objInit HE dX1_init_1 rfl q169 q170 q171 (tag_pos wf1 (EB.tag f0 (by decide)) (by decide)) (Nat.le_of_ble_eq_true rfl) (Nat.le_of_ble_eq_true rfl) (Nat.le_of_ble_eq_true rfl) ?_
  refine x_aload_n HE 0 dX1_init_4 rfl rfl ?_
  refine x_sipush HE dX1_init_5 (by decide) ?_
  obtain ⟨v8, hw⟩ := hw
  refine x_newBN HE dX1_init_8 q187 (by decide) v8 (fun a8 m8 ea8 em8 E8 w8 => ?_)
  have hw := hw a8 m8 ea8 em8 w8
  have t8 := alloc_tag ea8 em8
  have l8 := alloc_len ea8 em8
  obtain ⟨z10, hw⟩ := hw
  refine x_pR HE dX1_init_10 fd_X1_0 q222 (Or.inl rfl) (Or.inr ⟨rfl, hn, rfl⟩) (nf_arr _ _) ((EB.tr E8).tag f0 (by decide)) (nro (by decide)) (Or.inr z10) (fun m10 em10 E10 => ?_)
  have hw := hw m10 em10
  refine x_aload_n HE 0 dX1_init_13 rfl rfl ?_
  refine x_iconst HE dX1_init_14 (by decide) ?_
  refine x_pI HE dX1_init_15 fd_X1_3 q225 (Or.inl rfl) (Or.inl rfl) (nf_int _) ((EB.tr (E8.tr E10)).tag f0 (by decide)) (nro (by decide)) (Or.inl nf_X1_3) (fun m15 em15 E15 => ?_)
  have hw := hw m15 em15
  refine x_aload_n HE 0 dX1_init_18 rfl rfl ?_
  obtain ⟨v19, hw⟩ := hw
  refine x_newN HE dX1_init_19 xc23 (by decide) (nro (by decide)) q172 q173 q124 v19 (fun a19 m19 ea19 em19 E19 w19 => ?_)
  have hw := hw a19 m19 ea19 em19 w19
  have t19 := alloc_tag ea19 em19
  refine x_dup HE dX1_init_22 (fun o => o) ?_
  refine x_iconst HE dX1_init_23 (by decide) ?_
  refine Wx.wf (fun wf24 => ?_)
  refine x_callI HE dX1_init_24 rfl (fun l => k_X2_init t19 l hw) (As := [iV 0]) (rest := [rV a19, rV x0]) rfl (tag_pos wf24 t19 (by decide)) q174 q124 q175 q176 rfl hy_X2_init.2 rfl rfl (Nat.le_of_ble_eq_true rfl) (Nat.le_of_ble_eq_true rfl) (Nat.le_of_ble_eq_true rfl) (kkV (fun m24 E24 hw => ?_))
  have hw := hw E24
  obtain ⟨z27, hw⟩ := hw
  refine x_pR HE dX1_init_27 fd_X1_11 q233 (Or.inl rfl) (Or.inr ⟨rfl, hn, rfl⟩) (nf_obj _ _) ((EB.tr (E8.tr (E10.tr (E15.tr (E19.tr E24))))).tag f0 (by decide)) (nro (by decide)) (Or.inr z27) (fun m27 em27 E27 => ?_)
  have hw := hw m27 em27
  refine x_aload_n HE 0 dX1_init_30 rfl rfl ?_
  obtain ⟨v31, hw⟩ := hw
  refine x_newN HE dX1_init_31 xc24 (by decide) (nro (by decide)) q188 q189 q125 v31 (fun a31 m31 ea31 em31 E31 w31 => ?_)
  have hw := hw a31 m31 ea31 em31 w31
  have t31 := alloc_tag ea31 em31
  refine x_dup HE dX1_init_34 (fun o => o) ?_
  refine x_bipush HE dX1_init_35 (by decide) ?_
  refine Wx.wf (fun wf37 => ?_)
  refine x_callI HE dX1_init_37 rfl (fun l => k_X3_init t31 l hw) (As := [iV 30]) (rest := [rV a31, rV x0]) rfl (tag_pos wf37 t31 (by decide)) q190 q125 q191 q192 rfl hy_X3_init.2 rfl rfl (Nat.le_of_ble_eq_true rfl) (Nat.le_of_ble_eq_true rfl) (Nat.le_of_ble_eq_true rfl) (kkV (fun m37 E37 hw => ?_))
  have hw := hw E37
  obtain ⟨z40, hw⟩ := hw
  refine x_pR HE dX1_init_40 fd_X1_12 q234 (Or.inl rfl) (Or.inr ⟨rfl, hn, rfl⟩) (nf_obj _ _) ((EB.tr (E8.tr (E10.tr (E15.tr (E19.tr (E24.tr (E27.tr (E31.tr E37)))))))).tag f0 (by decide)) (nro (by decide)) (Or.inr z40) (fun m40 em40 E40 => ?_)
  have hw := hw m40 em40
  refine x_aload_n HE 0 dX1_init_43 rfl rfl ?_
  obtain ⟨v44, hw⟩ := hw
  refine x_newN HE dX1_init_44 xc32 (by decide) (nro (by decide)) q196 q197 q128 v44 (fun a44 m44 ea44 em44 E44 w44 => ?_)
  have hw := hw a44 m44 ea44 em44 w44
  have t44 := alloc_tag ea44 em44
  refine x_dup HE dX1_init_47 (fun o => o) ?_
  refine Wx.wf (fun wf48 => ?_)
  refine x_callI HE dX1_init_48 rfl (fun l => k_J2_init t44 l hw) (As := []) (rest := [rV a44, rV x0]) rfl (tag_pos wf48 t44 (by decide)) q198 q128 q199 q200 rfl hy_J2_init.2 rfl rfl (Nat.le_of_ble_eq_true rfl) (Nat.le_of_ble_eq_true rfl) (Nat.le_of_ble_eq_true rfl) (kkV (fun m48 E48 hw => ?_))
  have hw := hw E48
  obtain ⟨z51, hw⟩ := hw
  refine x_pR HE dX1_init_51 fd_X1_13 q235 (Or.inl rfl) (Or.inr ⟨rfl, hn, rfl⟩) (nf_obj _ _) ((EB.tr (E8.tr (E10.tr (E15.tr (E19.tr (E24.tr (E27.tr (E31.tr (E37.tr (E40.tr (E44.tr E48))))))))))).tag f0 (by decide)) (nro (by decide)) (Or.inr z51) (fun m51 em51 E51 => ?_)
  have hw := hw m51 em51
  refine x_aload_n HE 0 dX1_init_54 rfl rfl ?_
  obtain ⟨v55, hw⟩ := hw
  refine x_newN HE dX1_init_55 xc32 (by decide) (nro (by decide)) q196 q197 q128 v55 (fun a55 m55 ea55 em55 E55 w55 => ?_)
  have hw := hw a55 m55 ea55 em55 w55
  have t55 := alloc_tag ea55 em55
  refine x_dup HE dX1_init_58 (fun o => o) ?_
  refine Wx.wf (fun wf59 => ?_)
  refine x_callI HE dX1_init_59 rfl (fun l => k_J2_init t55 l hw) (As := []) (rest := [rV a55, rV x0]) rfl (tag_pos wf59 t55 (by decide)) q198 q128 q199 q200 rfl hy_J2_init.2 rfl rfl (Nat.le_of_ble_eq_true rfl) (Nat.le_of_ble_eq_true rfl) (Nat.le_of_ble_eq_true rfl) (kkV (fun m59 E59 hw => ?_))
  have hw := hw E59
  obtain ⟨z62, hw⟩ := hw
  refine x_pR HE dX1_init_62 fd_X1_14 q236 (Or.inl rfl) (Or.inr ⟨rfl, hn, rfl⟩) (nf_obj _ _) ((EB.tr (E8.tr (E10.tr (E15.tr (E19.tr (E24.tr (E27.tr (E31.tr (E37.tr (E40.tr (E44.tr (E48.tr (E51.tr (E55.tr E59)))))))))))))).tag f0 (by decide)) (nro (by decide)) (Or.inr z62) (fun m62 em62 E62 => ?_)
  have hw := hw m62 em62
  exact x_vret HE hr dX1_init_65 hw
theorem k_X1_init {G : GT} {x0 : Int} {Q : Hp → Prop} {h : Hp} (f0 : hT h x0 = 11) (l : Launch) (hw : g_X1_init x0 Q h) : XM G l yX1_init cX1_init 1 none 4 80 [rV x0] (QV Q) h :=
  XM.of (by decide) (Nat.le_of_ble_eq_true rfl) (fun X HE hr hn => w_X1_init_0 HE hr hn f0 hw)
def g_X1_feed_b105 (x0 x1 x2 x3 x4 x5 : Int) (Q : Int → Hp → Prop) (h : Hp) : Prop :=
  (i32 ((hF h x0 1) + 20)) ∧ (∀ m113 : Hp, m113 = setF h x0 1 ((hF h x0 1) + 20) → (Q (hF m113 x0 1) m113))
theorem w_X1_feed_105 {G : GT} {X : ET} {h0 : Hp} {x0 x1 x2 x3 x4 x5 : Int} (HE : XE G X cX1_feed 8 RX1 0 0 h0) (hr : XR X (some .int)) (f0 : Lay_X1 h0 x0) {Q : Int → Hp → Prop} {h : Hp} (hw : g_X1_feed_b105 x0 x1 x2 x3 x4 x5 Q  h) : Wx G X h0 (QI Q) h 105 [some (rV x0), some (iV x1), some (iV x2), some (iV x3), some (iV x4), some (iV x5), none, none] [] := by
  refine Wx.start (fun EB => ?_)
  unfold g_X1_feed_b105 at hw
  refine x_aload_n HE 0 dX1_feed_105 rfl rfl ?_
  refine x_dup HE dX1_feed_106 (fun o => o) ?_
  refine x_gI HE dX1_feed_107 fd_X1_1 q223 (Or.inl rfl) (Lay_X1.tag (f0.ext EB)) rfl ?_
  refine x_bipush HE dX1_feed_110 (by decide) ?_
  obtain ⟨v112, hw⟩ := hw
  refine x_iadd HE dX1_feed_112 v112 ?_
  refine x_pI HE dX1_feed_113 fd_X1_1 q223 (Or.inl rfl) (Or.inl rfl) (nf_int _) (Lay_X1.tag (f0.ext EB)) (nro (by decide)) (Or.inl nf_X1_1) (fun m113 em113 E113 => ?_)
  have hw := hw m113 em113
  refine x_aload_n HE 0 dX1_feed_116 rfl rfl ?_
  refine x_gI HE dX1_feed_117 fd_X1_1 q223 (Or.inl rfl) (Lay_X1.tag (f0.ext (EB.tr E113))) rfl ?_
  exact x_iret HE hr dX1_feed_120 hw
def g_X1_feed_b71 (x0 x1 x2 x3 x4 x5 : Int) (Q : Int → Hp → Prop) (K18 : Int → Hp → Prop) (l6 s0 : Int) (h : Hp) : Prop :=
  (i32 ((hF h x0 1) + l6)) ∧ (((0 : Int) ≤ l6 ∧ (0 : Int) < 4) ∧ ((i32 (8 * (l6 % 4))) ∧ ((i32 (24 - (8 * (l6 % 4)))) ∧ (((0 : Int) ≤ ((hF h x0 1) + l6) ∧ ((hF h x0 1) + l6) < 1000) ∧ ((-128 ≤ (bByte (bUsh s0 (24 - (8 * (l6 % 4))))) ∧ (bByte (bUsh s0 (24 - (8 * (l6 % 4))))) ≤ 127) ∧ (∀ m98 : Hp, m98 = setA h (x0 + 1) ((hF h x0 1) + l6) (bByte (bUsh s0 (24 - (8 * (l6 % 4))))) → ((i32 (l6 + 1)) ∧ (∀ y99 : Int, y99 = l6 + 1 → (K18 y99 m98)))))))))
theorem w_X1_feed_71 {G : GT} {X : ET} {h0 : Hp} {x0 x1 x2 x3 x4 x5 : Int} (HE : XE G X cX1_feed 8 RX1 0 0 h0) (hr : XR X (some .int)) (f0 : Lay_X1 h0 x0) {Q : Int → Hp → Prop} {K18 : Int → Hp → Prop} (hK18 : ∀ (l6 : Int) (h : Hp), K18 l6 h → Wx G X h0 (QI Q) h 18 [some (rV x0), some (iV x1), some (iV x2), some (iV x3), some (iV x4), some (iV x5), some (iV l6), none] []) {l6 s0 : Int} {h : Hp} (hw : g_X1_feed_b71 x0 x1 x2 x3 x4 x5 Q K18 l6 s0 h) : Wx G X h0 (QI Q) h 71 [some (rV x0), some (iV x1), some (iV x2), some (iV x3), some (iV x4), some (iV x5), some (iV l6), none] [iV s0] := by
  refine Wx.start (fun EB => ?_)
  unfold g_X1_feed_b71 at hw
  refine x_istore HE (lo' := [some (rV x0), some (iV x1), some (iV x2), some (iV x3), some (iV x4), some (iV x5), some (iV l6), some (iV s0)]) dX1_feed_71 (Nat.le_of_ble_eq_true rfl) rfl ?_
  refine x_aload_n HE 0 dX1_feed_73 rfl rfl ?_
  refine x_gR HE dX1_feed_74 fd_X1_0 q222 (Or.inl rfl) (Lay_X1.tag (f0.ext EB)) (Lay_X1_0 (f0.ext EB)).1 ?_
  refine x_aload_n HE 0 dX1_feed_77 rfl rfl ?_
  refine x_gI HE dX1_feed_78 fd_X1_1 q223 (Or.inl rfl) (Lay_X1.tag (f0.ext EB)) rfl ?_
  refine x_iload HE dX1_feed_81 rfl ?_
  obtain ⟨v83, hw⟩ := hw
  refine x_iadd HE dX1_feed_83 v83 ?_
  refine x_iload HE dX1_feed_84 rfl ?_
  refine x_bipush HE dX1_feed_86 (by decide) ?_
  refine x_bipush HE dX1_feed_88 (by decide) ?_
  refine x_iload HE dX1_feed_90 rfl ?_
  refine x_iconst HE dX1_feed_92 (by decide) ?_
  obtain ⟨v93, hw⟩ := hw
  refine x_irem HE dX1_feed_93 v93.1 v93.2 ?_
  obtain ⟨v94, hw⟩ := hw
  refine x_imul HE dX1_feed_94 v94 ?_
  obtain ⟨v95, hw⟩ := hw
  refine x_isub HE dX1_feed_95 v95 ?_
  refine x_iushr HE dX1_feed_96 ?_
  refine x_i2b HE dX1_feed_97 ?_
  obtain ⟨i98, hw⟩ := hw
  obtain ⟨b98, hw⟩ := hw
  refine x_bast HE dX1_feed_98 ((Lay_X1_0 (f0.ext EB)).2.1) (ix_of ((Lay_X1_0 (f0.ext EB)).2.2) i98) b98 (fun m98 em98 E98 => ?_)
  have hw := hw m98 em98
  obtain ⟨v99, hw⟩ := hw
  refine x_iincN HE (fun y99 => [some (rV x0), some (iV x1), some (iV x2), some (iV x3), some (iV x4), some (iV x5), some (iV y99), some (iV s0)]) dX1_feed_99 rfl v99 (Nat.le_of_ble_eq_true rfl) (fun _ => rfl) (fun y99 ey99 => ?_)
  have hw := hw y99 ey99
  refine x_goto HE 18 dX1_feed_102 (by decide) ?_
  refine Wx.mask [true, true, true, true, true, true, true, false] (lo2 := [some (rV x0), some (iV x1), some (iV x2), some (iV x3), some (iV x4), some (iV x5), some (iV y99), none]) rfl ?_
  exact hK18 _ _ hw
def g_X1_feed_L18 (x0 x1 x2 x3 x4 x5 : Int) (Q : Int → Hp → Prop) (K18 : Int → Hp → Prop) (l6 : Int) (h : Hp) : Prop :=
  ((20 ≤ l6) → (g_X1_feed_b105 x0 x1 x2 x3 x4 x5 Q h)) ∧ ((l6 < 20) → (((4 ≤ l6) → (((8 ≤ l6) → (((12 ≤ l6) → (((16 ≤ l6) → (g_X1_feed_b71 x0 x1 x2 x3 x4 x5 Q K18 l6 x5 h)) ∧ ((l6 < 16) → (g_X1_feed_b71 x0 x1 x2 x3 x4 x5 Q K18 l6 x4 h)))) ∧ ((l6 < 12) → (g_X1_feed_b71 x0 x1 x2 x3 x4 x5 Q K18 l6 x3 h)))) ∧ ((l6 < 8) → (g_X1_feed_b71 x0 x1 x2 x3 x4 x5 Q K18 l6 x2 h)))) ∧ ((l6 < 4) → (g_X1_feed_b71 x0 x1 x2 x3 x4 x5 Q K18 l6 x1 h))))
theorem w_X1_feed_18 {G : GT} {X : ET} {h0 : Hp} {x0 x1 x2 x3 x4 x5 : Int} (HE : XE G X cX1_feed 8 RX1 0 0 h0) (hr : XR X (some .int)) (f0 : Lay_X1 h0 x0) {Q : Int → Hp → Prop} {K18 : Int → Hp → Prop} (hK18 : ∀ (l6 : Int) (h : Hp), K18 l6 h → Wx G X h0 (QI Q) h 18 [some (rV x0), some (iV x1), some (iV x2), some (iV x3), some (iV x4), some (iV x5), some (iV l6), none] []) {l6 : Int} {h : Hp} (hw : g_X1_feed_L18 x0 x1 x2 x3 x4 x5 Q K18 l6 h) : Wx G X h0 (QI Q) h 18 [some (rV x0), some (iV x1), some (iV x2), some (iV x3), some (iV x4), some (iV x5), some (iV l6), none] [] := by
  refine Wx.start (fun EB => ?_)
  unfold g_X1_feed_L18 at hw
  refine x_iload HE dX1_feed_18 rfl ?_
  refine x_bipush HE dX1_feed_20 (by decide) ?_
  refine x_ic_ge HE 105 dX1_feed_22 (by decide) (fun c22 => ?_) (fun c22 => ?_)
  · have hw := hw.1 c22
    refine Wx.mask [true, true, true, true, true, true, false, true] (lo2 := [some (rV x0), some (iV x1), some (iV x2), some (iV x3), some (iV x4), some (iV x5), none, none]) rfl ?_
    exact w_X1_feed_105 HE hr f0 hw
  · have hw := hw.2 c22
    refine x_iload HE dX1_feed_25 rfl ?_
    refine x_iconst HE dX1_feed_27 (by decide) ?_
    refine x_ic_ge HE 35 dX1_feed_28 (by decide) (fun c28 => ?_) (fun c28 => ?_)
    · have hw := hw.1 c28
      refine x_iload HE dX1_feed_35 rfl ?_
      refine x_bipush HE dX1_feed_37 (by decide) ?_
      refine x_ic_ge HE 46 dX1_feed_39 (by decide) (fun c39 => ?_) (fun c39 => ?_)
      · have hw := hw.1 c39
        refine x_iload HE dX1_feed_46 rfl ?_
        refine x_bipush HE dX1_feed_48 (by decide) ?_
        refine x_ic_ge HE 57 dX1_feed_50 (by decide) (fun c50 => ?_) (fun c50 => ?_)
        · have hw := hw.1 c50
          refine x_iload HE dX1_feed_57 rfl ?_
          refine x_bipush HE dX1_feed_59 (by decide) ?_
          refine x_ic_ge HE 69 dX1_feed_61 (by decide) (fun c61 => ?_) (fun c61 => ?_)
          · have hw := hw.1 c61
            refine x_iload HE dX1_feed_69 rfl ?_
            exact w_X1_feed_71 HE hr f0 hK18 hw
          · have hw := hw.2 c61
            refine x_iload HE dX1_feed_64 rfl ?_
            refine x_goto HE 71 dX1_feed_66 (by decide) ?_
            exact w_X1_feed_71 HE hr f0 hK18 hw
        · have hw := hw.2 c50
          refine x_iload_n HE 3 dX1_feed_53 rfl rfl ?_
          refine x_goto HE 71 dX1_feed_54 (by decide) ?_
          exact w_X1_feed_71 HE hr f0 hK18 hw
      · have hw := hw.2 c39
        refine x_iload_n HE 2 dX1_feed_42 rfl rfl ?_
        refine x_goto HE 71 dX1_feed_43 (by decide) ?_
        exact w_X1_feed_71 HE hr f0 hK18 hw
    · have hw := hw.2 c28
      refine x_iload_n HE 1 dX1_feed_31 rfl rfl ?_
      refine x_goto HE 71 dX1_feed_32 (by decide) ?_
      exact w_X1_feed_71 HE hr f0 hK18 hw
theorem wl_X1_feed_18 {G : GT} {X : ET} {h0 : Hp} {x0 x1 x2 x3 x4 x5 : Int} (HE : XE G X cX1_feed 8 RX1 0 0 h0) (hr : XR X (some .int)) (f0 : Lay_X1 h0 x0) {Q : Int → Hp → Prop} {l6 : Int} {h : Hp} (hw : Lp1 (g_X1_feed_L18 x0 x1 x2 x3 x4 x5 Q) l6 h) : Wx G X h0 (QI Q) h 18 [some (rV x0), some (iV x1), some (iV x2), some (iV x3), some (iV x4), some (iV x5), some (iV l6), none] [] := by
  obtain ⟨n, hw⟩ := hw
  induction n generalizing l6 h with
  | zero => exact hw.elim
  | succ n ih => exact w_X1_feed_18 HE hr f0 (fun _ _ hk => ih hk) hw
def g_X1_feed (x0 x1 x2 x3 x4 x5 : Int) (Q : Int → Hp → Prop) (h : Hp) : Prop :=
  (i32 ((hF h x0 1) + 20)) ∧ (((((hF h x0 1) + 20) ≤ 1000) → (Lp1 (g_X1_feed_L18 x0 x1 x2 x3 x4 x5 Q) 0 h)) ∧ ((1000 < ((hF h x0 1) + 20)) → (Q (-1) h)))
theorem w_X1_feed_0 {G : GT} {X : ET} {h0 : Hp} {x0 x1 x2 x3 x4 x5 : Int} (HE : XE G X cX1_feed 8 RX1 0 0 h0) (hr : XR X (some .int)) (f0 : Lay_X1 h0 x0) {Q : Int → Hp → Prop} {h : Hp} (hw : g_X1_feed x0 x1 x2 x3 x4 x5 Q h) : Wx G X h0 (QI Q) h 0 [some (rV x0), some (iV x1), some (iV x2), some (iV x3), some (iV x4), some (iV x5), none, none] [] := by
  refine Wx.start (fun EB => ?_)
  unfold g_X1_feed at hw
  refine x_aload_n HE 0 dX1_feed_0 rfl rfl ?_
  refine x_gI HE dX1_feed_1 fd_X1_1 q223 (Or.inl rfl) (Lay_X1.tag (f0.ext EB)) rfl ?_
  refine x_bipush HE dX1_feed_4 (by decide) ?_
  obtain ⟨v6, hw⟩ := hw
  refine x_iadd HE dX1_feed_6 v6 ?_
  refine x_sipush HE dX1_feed_7 (by decide) ?_
  refine x_ic_le HE 15 dX1_feed_10 (by decide) (fun c10 => ?_) (fun c10 => ?_)
  · have hw := hw.1 c10
    refine x_iconst HE dX1_feed_15 (by decide) ?_
    refine x_istore HE (lo' := [some (rV x0), some (iV x1), some (iV x2), some (iV x3), some (iV x4), some (iV x5), some (iV 0), none]) dX1_feed_16 (Nat.le_of_ble_eq_true rfl) rfl ?_
    exact wl_X1_feed_18 HE hr f0 hw
  · have hw := hw.2 c10
    refine x_iconst HE dX1_feed_13 (by decide) ?_
    exact x_iret HE hr dX1_feed_14 hw
theorem k_X1_feed {G : GT} {x0 x1 x2 x3 x4 x5 : Int} {Q : Int → Hp → Prop} {h : Hp} (f0 : Lay_X1 h x0) (l : Launch) (hw : g_X1_feed x0 x1 x2 x3 x4 x5 Q h) : XM G l yX1_feed cX1_feed 8 (some .int) 0 0 [rV x0, iV x1, iV x2, iV x3, iV x4, iV x5] (QI Q) h :=
  XM.of (by decide) (Nat.le_of_ble_eq_true rfl) (fun X HE hr hn => w_X1_feed_0 HE hr f0 hw)
def g_X1_refused (x0 x1 : Int) (Q : Int → Hp → Prop) (h : Hp) : Prop :=
  ∀ m2 : Hp, m2 = setF h x0 4 x1 → (∀ m7 : Hp, m7 = setF m2 x0 3 (-1) → (Q (-1) m7))
theorem w_X1_refused_0 {G : GT} {X : ET} {h0 : Hp} {x0 x1 : Int} (HE : XE G X cX1_refused 2 RX1 0 0 h0) (hr : XR X (some .int)) (f0 : Lay_X1 h0 x0) {Q : Int → Hp → Prop} {h : Hp} (hw : g_X1_refused x0 x1 Q h) : Wx G X h0 (QI Q) h 0 [some (rV x0), some (iV x1)] [] := by
  refine Wx.start (fun EB => ?_)
  unfold g_X1_refused at hw
  refine x_aload_n HE 0 dX1_refused_0 rfl rfl ?_
  refine x_iload_n HE 1 dX1_refused_1 rfl rfl ?_
  refine x_pI HE dX1_refused_2 fd_X1_4 q226 (Or.inl rfl) (Or.inl rfl) (nf_int _) (Lay_X1.tag (f0.ext EB)) (nro (by decide)) (Or.inl nf_X1_4) (fun m2 em2 E2 => ?_)
  have hw := hw m2 em2
  refine x_aload_n HE 0 dX1_refused_5 rfl rfl ?_
  refine x_iconst HE dX1_refused_6 (by decide) ?_
  refine x_pI HE dX1_refused_7 fd_X1_3 q225 (Or.inl rfl) (Or.inl rfl) (nf_int _) (Lay_X1.tag (f0.ext (EB.tr E2))) (nro (by decide)) (Or.inl nf_X1_3) (fun m7 em7 E7 => ?_)
  have hw := hw m7 em7
  refine x_iconst HE dX1_refused_10 (by decide) ?_
  exact x_iret HE hr dX1_refused_11 hw
theorem k_X1_refused {G : GT} {x0 x1 : Int} {Q : Int → Hp → Prop} {h : Hp} (f0 : Lay_X1 h x0) (l : Launch) (hw : g_X1_refused x0 x1 Q h) : XM G l yX1_refused cX1_refused 2 (some .int) 0 0 [rV x0, iV x1] (QI Q) h :=
  XM.of (by decide) (Nat.le_of_ble_eq_true rfl) (fun X HE hr hn => w_X1_refused_0 HE hr f0 hw)
def g_X1_shows (x0 x1 : Int) (Q : Hp → Prop) (h : Hp) : Prop :=
  ∀ m2 : Hp, m2 = setF h x0 6 x1 → (∀ m7 : Hp, m7 = setF m2 x0 10 0 → (Q m7))
theorem w_X1_shows_0 {G : GT} {X : ET} {h0 : Hp} {x0 x1 : Int} (HE : XE G X cX1_shows 2 RX1 0 0 h0) (hr : XR X none) (f0 : Lay_X1 h0 x0) {Q : Hp → Prop} {h : Hp} (hw : g_X1_shows x0 x1 Q h) : Wx G X h0 (QV Q) h 0 [some (rV x0), some (rV x1)] [] := by
  refine Wx.start (fun EB => ?_)
  unfold g_X1_shows at hw
  refine x_aload_n HE 0 dX1_shows_0 rfl rfl ?_
  refine x_aload_n HE 1 dX1_shows_1 rfl rfl ?_
  refine x_pR HE dX1_shows_2 fd_X1_6 q228 (Or.inl rfl) (Or.inl rfl) (nf_obj _ _) (Lay_X1.tag (f0.ext EB)) (nro (by decide)) (Or.inl nf_X1_6) (fun m2 em2 E2 => ?_)
  have hw := hw m2 em2
  refine x_aload_n HE 0 dX1_shows_5 rfl rfl ?_
  refine x_iconst HE dX1_shows_6 (by decide) ?_
  refine x_pI HE dX1_shows_7 fd_X1_10 q232 (Or.inl rfl) (Or.inl rfl) (nf_bool (by decide)) (Lay_X1.tag (f0.ext (EB.tr E2))) (nro (by decide)) (Or.inl nf_X1_10) (fun m7 em7 E7 => ?_)
  have hw := hw m7 em7
  exact x_vret HE hr dX1_shows_10 hw
theorem k_X1_shows {G : GT} {x0 x1 : Int} {Q : Hp → Prop} {h : Hp} (f0 : Lay_X1 h x0) (l : Launch) (hw : g_X1_shows x0 x1 Q h) : XM G l yX1_shows cX1_shows 2 none 0 0 [rV x0, rV x1] (QV Q) h :=
  XM.of (by decide) (Nat.le_of_ble_eq_true rfl) (fun X HE hr hn => w_X1_shows_0 HE hr f0 hw)
def g_X1_well (x0 x1 : Int) (Q : Int → Hp → Prop) (h : Hp) : Prop :=
  ∀ m2 : Hp, m2 = setF h x0 4 0 → (∀ m7 : Hp, m7 = setF m2 x0 3 (-1) → (Q x1 m7))
theorem w_X1_well_0 {G : GT} {X : ET} {h0 : Hp} {x0 x1 : Int} (HE : XE G X cX1_well 2 RX1 0 0 h0) (hr : XR X (some .int)) (f0 : Lay_X1 h0 x0) {Q : Int → Hp → Prop} {h : Hp} (hw : g_X1_well x0 x1 Q h) : Wx G X h0 (QI Q) h 0 [some (rV x0), some (iV x1)] [] := by
  refine Wx.start (fun EB => ?_)
  unfold g_X1_well at hw
  refine x_aload_n HE 0 dX1_well_0 rfl rfl ?_
  refine x_iconst HE dX1_well_1 (by decide) ?_
  refine x_pI HE dX1_well_2 fd_X1_4 q226 (Or.inl rfl) (Or.inl rfl) (nf_int _) (Lay_X1.tag (f0.ext EB)) (nro (by decide)) (Or.inl nf_X1_4) (fun m2 em2 E2 => ?_)
  have hw := hw m2 em2
  refine x_aload_n HE 0 dX1_well_5 rfl rfl ?_
  refine x_iconst HE dX1_well_6 (by decide) ?_
  refine x_pI HE dX1_well_7 fd_X1_3 q225 (Or.inl rfl) (Or.inl rfl) (nf_int _) (Lay_X1.tag (f0.ext (EB.tr E2))) (nro (by decide)) (Or.inl nf_X1_3) (fun m7 em7 E7 => ?_)
  have hw := hw m7 em7
  refine x_iload_n HE 1 dX1_well_10 rfl rfl ?_
  exact x_iret HE hr dX1_well_11 hw
theorem k_X1_well {G : GT} {x0 x1 : Int} {Q : Int → Hp → Prop} {h : Hp} (f0 : Lay_X1 h x0) (l : Launch) (hw : g_X1_well x0 x1 Q h) : XM G l yX1_well cX1_well 2 (some .int) 0 0 [rV x0, iV x1] (QI Q) h :=
  XM.of (by decide) (Nat.le_of_ble_eq_true rfl) (fun X HE hr hn => w_X1_well_0 HE hr f0 hw)
def g_X1_house (x0 x1 : Int) (Q : Int → Hp → Prop) (h : Hp) : Prop :=
  g_X1_in x1 0 (hF h x0 1) (fun r6 m6 => Ext h m6 → (((r6 ≠ 0) → ((capOK m6 5) ∧ (∀ (a18 : Int) (m18 : Hp), a18 = hN m6 → m18 = alloc m6 20 0 5 → WFa m6 → ((capOK m18 3) ∧ (∀ (a22 : Int) (m22 : Hp), a22 = hN m18 → m22 = alloc m18 19 0 3 → WFa m18 → (g_X6_init a22 (x0 + 1) x1 (fun m31 => Ext m22 m31 → (g_X5_init a18 a22 (fun m34 => Ext m31 m34 → (∀ m40 : Hp, m40 = setF m34 x0 1 0 → (g_X5_read a18 (fun r44 m44 => Ext m40 m44 → (∀ m53 : Hp, m53 = setF m44 x0 2 (hF m44 a18 3) → (((0 < r44) → (∀ m77 : Hp, m77 = setF m53 x0 5 r44 → ((capOK m77 27) ∧ (∀ (a81 : Int) (m81 : Hp), a81 = hN m77 → m81 = alloc m77 13 0 27 → WFa m77 → (g_X21_init a81 (hF m81 x0 5) (fun m89 => Ext m81 m89 → (∀ m92 : Hp, m92 = setF m89 x0 7 a81 → ((capOK m92 27) ∧ (∀ (a96 : Int) (m96 : Hp), a96 = hN m92 → m96 = alloc m92 13 0 27 → WFa m92 → (g_X21_init a96 (hF m96 x0 5) (fun m104 => Ext m96 m104 → (∀ m107 : Hp, m107 = setF m104 x0 8 a96 → ((capOK m107 27) ∧ (∀ (a111 : Int) (m111 : Hp), a111 = hN m107 → m111 = alloc m107 13 0 27 → WFa m107 → (g_X21_init a111 (hF m111 x0 5) (fun m119 => Ext m111 m119 → (∀ m122 : Hp, m122 = setF m119 x0 9 a111 → ((Lay_X21 m122 (hF m122 x0 7)) ∧ (g_X21_copy (hF m122 x0 7) (fun r130 m130 => Ext m122 m130 → (g_X1_shows x0 r130 (fun m133 => Ext m130 m133 → (g_J2_clear (x0 + 4) (fun m140 => Ext m133 m140 → (g_J2_clear (x0 + 5) (fun m147 => Ext m140 m147 → ((Lay_X7 m147 (hF m147 x0 5)) ∧ (g_J2_size ((hF m147 x0 5) + 3) (fun r158 m158 => Ext m147 m158 → (g_X1_well x0 r158 (fun r161 m161 => Ext m158 m161 → (Q r161 m161)) m158)) m147))) m140)) m133)) m130)) m122)))) m111))))) m96))))) m81))))) ∧ ((r44 = 0) → (∀ m62 : Hp, m62 = setF m53 x0 4 4 → (∀ m70 : Hp, m70 = setF m62 x0 3 (hF m62 a18 4) → (Q (-1) m70))))))) m40))) m31)) m22)))))) ∧ ((r6 = 0) → (g_X1_refused x0 2 (fun r14 m14 => Ext m6 m14 → (Q r14 m14)) m6)))) h
theorem w_X1_house_0 {G : GT} {X : ET} {h0 : Hp} {x0 x1 : Int} (HE : XE G X cX1_house 4 RX1 13 325 h0) (hr : XR X (some .int)) (f0 : Lay_X1 h0 x0) {Q : Int → Hp → Prop} {h : Hp} (hw : g_X1_house x0 x1 Q h) : Wx G X h0 (QI Q) h 0 [some (rV x0), some (iV x1), none, none] [] := by
  refine Wx.start (fun EB => ?_)
  unfold g_X1_house at hw
  refine x_iload_n HE 1 dX1_house_0 rfl rfl ?_
  refine x_iconst HE dX1_house_1 (by decide) ?_
  refine x_aload_n HE 0 dX1_house_2 rfl rfl ?_
  refine x_gI HE dX1_house_3 fd_X1_1 q223 (Or.inl rfl) (Lay_X1.tag (f0.ext EB)) rfl ?_
  refine x_callS HE dX1_house_6 rfl (fun l => k_X1_in  l hw) (As := [iV x1, iV 0, iV (hF h x0 1)]) (rest := []) rfl (lw_S q276 q277 q123 q278) hy_X1_in.2 rfl rfl (Nat.le_of_ble_eq_true rfl) (Nat.le_of_ble_eq_true rfl) (Nat.le_of_ble_eq_true rfl) (kkI (fun r6 m6 E6 hw => ?_))
  have hw := hw E6
  refine x_if_ne HE 18 dX1_house_9 (by decide) (fun c9 => ?_) (fun c9 => ?_)
  · have hw := hw.1 c9
    obtain ⟨v18, hw⟩ := hw
    refine x_newN HE dX1_house_18 xc20 (by decide) (nro (by decide)) q283 q284 q130 v18 (fun a18 m18 ea18 em18 E18 w18 => ?_)
    have hw := hw a18 m18 ea18 em18 w18
    have t18 := alloc_tag ea18 em18
    refine x_dup HE dX1_house_21 (fun o => o) ?_
    obtain ⟨v22, hw⟩ := hw
    refine x_newN HE dX1_house_22 xc19 (by decide) (nro (by decide)) q285 q286 q131 v22 (fun a22 m22 ea22 em22 E22 w22 => ?_)
    have hw := hw a22 m22 ea22 em22 w22
    have t22 := alloc_tag ea22 em22
    refine x_dup HE dX1_house_25 (fun o => o) ?_
    refine x_aload_n HE 0 dX1_house_26 rfl rfl ?_
    refine x_gR HE dX1_house_27 fd_X1_0 q222 (Or.inl rfl) (Lay_X1.tag (f0.ext (EB.tr (E6.tr (E18.tr E22))))) (Lay_X1_0 (f0.ext (EB.tr (E6.tr (E18.tr E22))))).1 ?_
    refine x_iload_n HE 1 dX1_house_30 rfl rfl ?_
    refine Wx.wf (fun wf31 => ?_)
    refine x_callI HE dX1_house_31 rfl (fun l => k_X6_init t22 l hw) (As := [rV (x0 + 1), iV x1]) (rest := [rV a22, rV a18, rV a18]) rfl (tag_pos wf31 t22 (by decide)) q287 q131 q288 q289 rfl hy_X6_init.2 rfl rfl (Nat.le_of_ble_eq_true rfl) (Nat.le_of_ble_eq_true rfl) (Nat.le_of_ble_eq_true rfl) (kkV (fun m31 E31 hw => ?_))
    have hw := hw E31
    refine Wx.wf (fun wf34 => ?_)
    refine x_callI HE dX1_house_34 rfl (fun l => k_X5_init ((E22.tr E31).tag t18 (by decide)) l hw) (As := [rV a22]) (rest := [rV a18]) rfl (tag_pos wf34 ((E22.tr E31).tag t18 (by decide)) (by decide)) q301 q130 q302 q303 rfl hy_X5_init.2 rfl rfl (Nat.le_of_ble_eq_true rfl) (Nat.le_of_ble_eq_true rfl) (Nat.le_of_ble_eq_true rfl) (kkV (fun m34 E34 hw => ?_))
    have hw := hw E34
    refine x_astore_n HE 2 (lo' := [some (rV x0), some (iV x1), some (rV a18), none]) dX1_house_37 rfl (Nat.le_of_ble_eq_true rfl) rfl ?_
    refine x_aload_n HE 0 dX1_house_38 rfl rfl ?_
    refine x_iconst HE dX1_house_39 (by decide) ?_
    refine x_pI HE dX1_house_40 fd_X1_1 q223 (Or.inl rfl) (Or.inl rfl) (nf_int _) (Lay_X1.tag (f0.ext (EB.tr (E6.tr (E18.tr (E22.tr (E31.tr E34))))))) (nro (by decide)) (Or.inl nf_X1_1) (fun m40 em40 E40 => ?_)
    have hw := hw m40 em40
    refine x_aload_n HE 2 dX1_house_43 rfl rfl ?_
    refine x_callV HE dX1_house_44 rfl (fun l => k_X5_read ((E22.tr (E31.tr (E34.tr E40))).tag t18 (by decide)) l hw) (As := []) (rest := []) rfl xc20 ((E22.tr (E31.tr (E34.tr E40))).tag t18 (by decide)) (lw_V q591 q592 q593 q130 q594) hy_X5_read rfl rfl (Nat.le_of_ble_eq_true rfl) (Nat.le_of_ble_eq_true rfl) (Nat.le_of_ble_eq_true rfl) (kkR (fun r44 m44 E44 hw => ?_))
    have hw := hw E44
    refine x_astore_n HE 3 (lo' := [some (rV x0), some (iV x1), some (rV a18), some (rV r44)]) dX1_house_47 rfl (Nat.le_of_ble_eq_true rfl) rfl ?_
    refine x_aload_n HE 0 dX1_house_48 rfl rfl ?_
    refine x_aload_n HE 2 dX1_house_49 rfl rfl ?_
    refine x_gIN HE dX1_house_50 fd_X5_3 (host := "NextAtBa\x72") (List.mem_of_getElem? (i := 3) rfl) rfl ((E22.tr (E31.tr (E34.tr (E40.tr E44)))).tag t18 (by decide)) rfl ?_
    refine x_pI HE dX1_house_53 fd_X1_2 q224 (Or.inl rfl) (Or.inl rfl) (nf_int _) (Lay_X1.tag (f0.ext (EB.tr (E6.tr (E18.tr (E22.tr (E31.tr (E34.tr (E40.tr E44))))))))) (nro (by decide)) (Or.inl nf_X1_2) (fun m53 em53 E53 => ?_)
    have hw := hw m53 em53
    refine x_aload_n HE 3 dX1_house_56 rfl rfl ?_
    refine x_ifnonnull HE 75 dX1_house_57 (by decide) (fun c57 => ?_) (fun c57 => ?_)
    · have hw := hw.1 c57
      refine x_aload_n HE 0 dX1_house_75 rfl rfl ?_
      refine x_aload_n HE 3 dX1_house_76 rfl rfl ?_
      refine x_pR HE dX1_house_77 fd_X1_5 q227 (Or.inl rfl) (Or.inl rfl) (nf_obj _ _) (Lay_X1.tag (f0.ext (EB.tr (E6.tr (E18.tr (E22.tr (E31.tr (E34.tr (E40.tr (E44.tr E53)))))))))) (nro (by decide)) (Or.inl nf_X1_5) (fun m77 em77 E77 => ?_)
      have hw := hw m77 em77
      refine x_aload_n HE 0 dX1_house_80 rfl rfl ?_
      obtain ⟨v81, hw⟩ := hw
      refine x_newN HE dX1_house_81 xc13 (by decide) (nro (by decide)) q1078 q1079 q157 v81 (fun a81 m81 ea81 em81 E81 w81 => ?_)
      have hw := hw a81 m81 ea81 em81 w81
      have t81 := alloc_tag ea81 em81
      refine x_dup HE dX1_house_84 (fun o => o) ?_
      refine x_aload_n HE 0 dX1_house_85 rfl rfl ?_
      refine x_gR HE dX1_house_86 fd_X1_5 q227 (Or.inl rfl) (Lay_X1.tag (f0.ext (EB.tr (E6.tr (E18.tr (E22.tr (E31.tr (E34.tr (E40.tr (E44.tr (E53.tr (E77.tr E81)))))))))))) rfl ?_
      refine Wx.wf (fun wf89 => ?_)
      refine x_callI HE dX1_house_89 rfl (fun l => k_X21_init t81 l hw) (As := [rV (hF m81 x0 5)]) (rest := [rV a81, rV x0]) rfl (tag_pos wf89 t81 (by decide)) q1080 q157 q1081 q1082 rfl hy_X21_init.2 rfl rfl (Nat.le_of_ble_eq_true rfl) (Nat.le_of_ble_eq_true rfl) (Nat.le_of_ble_eq_true rfl) (kkV (fun m89 E89 hw => ?_))
      have hw := hw E89
      refine x_pR HE dX1_house_92 fd_X1_7 q229 (Or.inl rfl) (Or.inl rfl) (nf_obj _ _) (Lay_X1.tag (f0.ext (EB.tr (E6.tr (E18.tr (E22.tr (E31.tr (E34.tr (E40.tr (E44.tr (E53.tr (E77.tr (E81.tr E89))))))))))))) (nro (by decide)) (Or.inl nf_X1_7) (fun m92 em92 E92 => ?_)
      have hw := hw m92 em92
      refine x_aload_n HE 0 dX1_house_95 rfl rfl ?_
      obtain ⟨v96, hw⟩ := hw
      refine x_newN HE dX1_house_96 xc13 (by decide) (nro (by decide)) q1078 q1079 q157 v96 (fun a96 m96 ea96 em96 E96 w96 => ?_)
      have hw := hw a96 m96 ea96 em96 w96
      have t96 := alloc_tag ea96 em96
      refine x_dup HE dX1_house_99 (fun o => o) ?_
      refine x_aload_n HE 0 dX1_house_100 rfl rfl ?_
      refine x_gR HE dX1_house_101 fd_X1_5 q227 (Or.inl rfl) (Lay_X1.tag (f0.ext (EB.tr (E6.tr (E18.tr (E22.tr (E31.tr (E34.tr (E40.tr (E44.tr (E53.tr (E77.tr (E81.tr (E89.tr (E92.tr E96))))))))))))))) rfl ?_
      refine Wx.wf (fun wf104 => ?_)
      refine x_callI HE dX1_house_104 rfl (fun l => k_X21_init t96 l hw) (As := [rV (hF m96 x0 5)]) (rest := [rV a96, rV x0]) rfl (tag_pos wf104 t96 (by decide)) q1080 q157 q1081 q1082 rfl hy_X21_init.2 rfl rfl (Nat.le_of_ble_eq_true rfl) (Nat.le_of_ble_eq_true rfl) (Nat.le_of_ble_eq_true rfl) (kkV (fun m104 E104 hw => ?_))
      have hw := hw E104
      refine x_pR HE dX1_house_107 fd_X1_8 q230 (Or.inl rfl) (Or.inl rfl) (nf_obj _ _) (Lay_X1.tag (f0.ext (EB.tr (E6.tr (E18.tr (E22.tr (E31.tr (E34.tr (E40.tr (E44.tr (E53.tr (E77.tr (E81.tr (E89.tr (E92.tr (E96.tr E104)))))))))))))))) (nro (by decide)) (Or.inl nf_X1_8) (fun m107 em107 E107 => ?_)
      have hw := hw m107 em107
      refine x_aload_n HE 0 dX1_house_110 rfl rfl ?_
      obtain ⟨v111, hw⟩ := hw
      refine x_newN HE dX1_house_111 xc13 (by decide) (nro (by decide)) q1078 q1079 q157 v111 (fun a111 m111 ea111 em111 E111 w111 => ?_)
      have hw := hw a111 m111 ea111 em111 w111
      have t111 := alloc_tag ea111 em111
      refine x_dup HE dX1_house_114 (fun o => o) ?_
      refine x_aload_n HE 0 dX1_house_115 rfl rfl ?_
      refine x_gR HE dX1_house_116 fd_X1_5 q227 (Or.inl rfl) (Lay_X1.tag (f0.ext (EB.tr (E6.tr (E18.tr (E22.tr (E31.tr (E34.tr (E40.tr (E44.tr (E53.tr (E77.tr (E81.tr (E89.tr (E92.tr (E96.tr (E104.tr (E107.tr E111)))))))))))))))))) rfl ?_
      refine Wx.wf (fun wf119 => ?_)
      refine x_callI HE dX1_house_119 rfl (fun l => k_X21_init t111 l hw) (As := [rV (hF m111 x0 5)]) (rest := [rV a111, rV x0]) rfl (tag_pos wf119 t111 (by decide)) q1080 q157 q1081 q1082 rfl hy_X21_init.2 rfl rfl (Nat.le_of_ble_eq_true rfl) (Nat.le_of_ble_eq_true rfl) (Nat.le_of_ble_eq_true rfl) (kkV (fun m119 E119 hw => ?_))
      have hw := hw E119
      refine x_pR HE dX1_house_122 fd_X1_9 q231 (Or.inl rfl) (Or.inl rfl) (nf_obj _ _) (Lay_X1.tag (f0.ext (EB.tr (E6.tr (E18.tr (E22.tr (E31.tr (E34.tr (E40.tr (E44.tr (E53.tr (E77.tr (E81.tr (E89.tr (E92.tr (E96.tr (E104.tr (E107.tr (E111.tr E119))))))))))))))))))) (nro (by decide)) (Or.inl nf_X1_9) (fun m122 em122 E122 => ?_)
      have hw := hw m122 em122
      refine x_aload_n HE 0 dX1_house_125 rfl rfl ?_
      refine x_aload_n HE 0 dX1_house_126 rfl rfl ?_
      refine x_gR HE dX1_house_127 fd_X1_7 q229 (Or.inl rfl) (Lay_X1.tag (f0.ext (EB.tr (E6.tr (E18.tr (E22.tr (E31.tr (E34.tr (E40.tr (E44.tr (E53.tr (E77.tr (E81.tr (E89.tr (E92.tr (E96.tr (E104.tr (E107.tr (E111.tr (E119.tr E122)))))))))))))))))))) rfl ?_
      obtain ⟨u130_0, hw⟩ := hw
      refine x_callV HE dX1_house_130 rfl (fun l => k_X21_copy u130_0 l hw) (As := []) (rest := [rV x0]) rfl xc13 (Lay_X21.tag u130_0) (lw_V q1233 q1234 q1235 q157 q1236) hy_X21_copy rfl rfl (Nat.le_of_ble_eq_true rfl) (Nat.le_of_ble_eq_true rfl) (Nat.le_of_ble_eq_true rfl) (kkR (fun r130 m130 E130 hw => ?_))
      have hw := hw E130
      refine x_callV HE dX1_house_133 rfl (fun l => k_X1_shows (f0.ext (EB.tr (E6.tr (E18.tr (E22.tr (E31.tr (E34.tr (E40.tr (E44.tr (E53.tr (E77.tr (E81.tr (E89.tr (E92.tr (E96.tr (E104.tr (E107.tr (E111.tr (E119.tr (E122.tr E130)))))))))))))))))))) l hw) (As := [rV r130]) (rest := []) rfl xc11 (Lay_X1.tag (f0.ext (EB.tr (E6.tr (E18.tr (E22.tr (E31.tr (E34.tr (E40.tr (E44.tr (E53.tr (E77.tr (E81.tr (E89.tr (E92.tr (E96.tr (E104.tr (E107.tr (E111.tr (E119.tr (E122.tr E130))))))))))))))))))))) (lw_V q1244 q1246 qs25 q123 q1247) hy_X1_shows rfl rfl (Nat.le_of_ble_eq_true rfl) (Nat.le_of_ble_eq_true rfl) (Nat.le_of_ble_eq_true rfl) (kkV (fun m133 E133 hw => ?_))
      have hw := hw E133
      refine x_aload_n HE 0 dX1_house_136 rfl rfl ?_
      refine x_gR HE dX1_house_137 fd_X1_13 q235 (Or.inl rfl) (Lay_X1.tag (f0.ext (EB.tr (E6.tr (E18.tr (E22.tr (E31.tr (E34.tr (E40.tr (E44.tr (E53.tr (E77.tr (E81.tr (E89.tr (E92.tr (E96.tr (E104.tr (E107.tr (E111.tr (E119.tr (E122.tr (E130.tr E133)))))))))))))))))))))) (Lay_X1_13 (f0.ext (EB.tr (E6.tr (E18.tr (E22.tr (E31.tr (E34.tr (E40.tr (E44.tr (E53.tr (E77.tr (E81.tr (E89.tr (E92.tr (E96.tr (E104.tr (E107.tr (E111.tr (E119.tr (E122.tr (E130.tr E133)))))))))))))))))))))).1 ?_
      refine x_callV HE dX1_house_140 rfl (fun l => k_J2_clear ((Lay_X1_13 (f0.ext (EB.tr (E6.tr (E18.tr (E22.tr (E31.tr (E34.tr (E40.tr (E44.tr (E53.tr (E77.tr (E81.tr (E89.tr (E92.tr (E96.tr (E104.tr (E107.tr (E111.tr (E119.tr (E122.tr (E130.tr E133)))))))))))))))))))))).2) l hw) (As := []) (rest := []) rfl xc32 ((Lay_X1_13 (f0.ext (EB.tr (E6.tr (E18.tr (E22.tr (E31.tr (E34.tr (E40.tr (E44.tr (E53.tr (E77.tr (E81.tr (E89.tr (E92.tr (E96.tr (E104.tr (E107.tr (E111.tr (E119.tr (E122.tr (E130.tr E133)))))))))))))))))))))).2) (lw_V q1248 q1249 q1250 q128 q1251) hy_J2_clear rfl rfl (Nat.le_of_ble_eq_true rfl) (Nat.le_of_ble_eq_true rfl) (Nat.le_of_ble_eq_true rfl) (kkV (fun m140 E140 hw => ?_))
      have hw := hw E140
      refine x_aload_n HE 0 dX1_house_143 rfl rfl ?_
      refine x_gR HE dX1_house_144 fd_X1_14 q236 (Or.inl rfl) (Lay_X1.tag (f0.ext (EB.tr (E6.tr (E18.tr (E22.tr (E31.tr (E34.tr (E40.tr (E44.tr (E53.tr (E77.tr (E81.tr (E89.tr (E92.tr (E96.tr (E104.tr (E107.tr (E111.tr (E119.tr (E122.tr (E130.tr (E133.tr E140))))))))))))))))))))))) (Lay_X1_14 (f0.ext (EB.tr (E6.tr (E18.tr (E22.tr (E31.tr (E34.tr (E40.tr (E44.tr (E53.tr (E77.tr (E81.tr (E89.tr (E92.tr (E96.tr (E104.tr (E107.tr (E111.tr (E119.tr (E122.tr (E130.tr (E133.tr E140))))))))))))))))))))))).1 ?_
      refine x_callV HE dX1_house_147 rfl (fun l => k_J2_clear ((Lay_X1_14 (f0.ext (EB.tr (E6.tr (E18.tr (E22.tr (E31.tr (E34.tr (E40.tr (E44.tr (E53.tr (E77.tr (E81.tr (E89.tr (E92.tr (E96.tr (E104.tr (E107.tr (E111.tr (E119.tr (E122.tr (E130.tr (E133.tr E140))))))))))))))))))))))).2) l hw) (As := []) (rest := []) rfl xc32 ((Lay_X1_14 (f0.ext (EB.tr (E6.tr (E18.tr (E22.tr (E31.tr (E34.tr (E40.tr (E44.tr (E53.tr (E77.tr (E81.tr (E89.tr (E92.tr (E96.tr (E104.tr (E107.tr (E111.tr (E119.tr (E122.tr (E130.tr (E133.tr E140))))))))))))))))))))))).2) (lw_V q1248 q1249 q1250 q128 q1251) hy_J2_clear rfl rfl (Nat.le_of_ble_eq_true rfl) (Nat.le_of_ble_eq_true rfl) (Nat.le_of_ble_eq_true rfl) (kkV (fun m147 E147 hw => ?_))
      have hw := hw E147
      refine x_aload_n HE 0 dX1_house_150 rfl rfl ?_
      refine x_aload_n HE 0 dX1_house_151 rfl rfl ?_
      refine x_gR HE dX1_house_152 fd_X1_5 q227 (Or.inl rfl) (Lay_X1.tag (f0.ext (EB.tr (E6.tr (E18.tr (E22.tr (E31.tr (E34.tr (E40.tr (E44.tr (E53.tr (E77.tr (E81.tr (E89.tr (E92.tr (E96.tr (E104.tr (E107.tr (E111.tr (E119.tr (E122.tr (E130.tr (E133.tr (E140.tr E147)))))))))))))))))))))))) rfl ?_
      obtain ⟨v155, hw⟩ := hw
      refine x_gR HE dX1_house_155 fd_X7_5 q331 (Or.inl rfl) (Lay_X7.tag v155) (Lay_X7_5 v155).1 ?_
      refine x_callV HE dX1_house_158 rfl (fun l => k_J2_size ((Lay_X7_5 v155).2) l hw) (As := []) (rest := [rV x0]) rfl xc32 ((Lay_X7_5 v155).2) (lw_V q1252 q708 q709 q128 q710) hy_J2_size rfl rfl (Nat.le_of_ble_eq_true rfl) (Nat.le_of_ble_eq_true rfl) (Nat.le_of_ble_eq_true rfl) (kkI (fun r158 m158 E158 hw => ?_))
      have hw := hw E158
      refine x_callV HE dX1_house_161 rfl (fun l => k_X1_well (f0.ext (EB.tr (E6.tr (E18.tr (E22.tr (E31.tr (E34.tr (E40.tr (E44.tr (E53.tr (E77.tr (E81.tr (E89.tr (E92.tr (E96.tr (E104.tr (E107.tr (E111.tr (E119.tr (E122.tr (E130.tr (E133.tr (E140.tr (E147.tr E158)))))))))))))))))))))))) l hw) (As := [iV r158]) (rest := []) rfl xc11 (Lay_X1.tag (f0.ext (EB.tr (E6.tr (E18.tr (E22.tr (E31.tr (E34.tr (E40.tr (E44.tr (E53.tr (E77.tr (E81.tr (E89.tr (E92.tr (E96.tr (E104.tr (E107.tr (E111.tr (E119.tr (E122.tr (E130.tr (E133.tr (E140.tr (E147.tr E158))))))))))))))))))))))))) (lw_V q1253 q1255 qs26 q123 q1256) hy_X1_well rfl rfl (Nat.le_of_ble_eq_true rfl) (Nat.le_of_ble_eq_true rfl) (Nat.le_of_ble_eq_true rfl) (kkI (fun r161 m161 E161 hw => ?_))
      have hw := hw E161
      exact x_iret HE hr dX1_house_164 hw
    · have hw := hw.2 c57
      refine x_aload_n HE 0 dX1_house_60 rfl rfl ?_
      refine x_iconst HE dX1_house_61 (by decide) ?_
      refine x_pI HE dX1_house_62 fd_X1_4 q226 (Or.inl rfl) (Or.inl rfl) (nf_int _) (Lay_X1.tag (f0.ext (EB.tr (E6.tr (E18.tr (E22.tr (E31.tr (E34.tr (E40.tr (E44.tr E53)))))))))) (nro (by decide)) (Or.inl nf_X1_4) (fun m62 em62 E62 => ?_)
      have hw := hw m62 em62
      refine x_aload_n HE 0 dX1_house_65 rfl rfl ?_
      refine x_aload_n HE 2 dX1_house_66 rfl rfl ?_
      refine x_gIN HE dX1_house_67 fd_X5_4 (host := "NextAtBa\x72") (List.mem_of_getElem? (i := 4) rfl) rfl ((E22.tr (E31.tr (E34.tr (E40.tr (E44.tr (E53.tr E62)))))).tag t18 (by decide)) rfl ?_
      refine x_pI HE dX1_house_70 fd_X1_3 q225 (Or.inl rfl) (Or.inl rfl) (nf_int _) (Lay_X1.tag (f0.ext (EB.tr (E6.tr (E18.tr (E22.tr (E31.tr (E34.tr (E40.tr (E44.tr (E53.tr E62))))))))))) (nro (by decide)) (Or.inl nf_X1_3) (fun m70 em70 E70 => ?_)
      have hw := hw m70 em70
      refine x_iconst HE dX1_house_73 (by decide) ?_
      exact x_iret HE hr dX1_house_74 hw
  · have hw := hw.2 c9
    refine x_aload_n HE 0 dX1_house_12 rfl rfl ?_
    refine x_iconst HE dX1_house_13 (by decide) ?_
    refine x_callV HE dX1_house_14 rfl (fun l => k_X1_refused (f0.ext (EB.tr E6)) l hw) (As := [iV 2]) (rest := []) rfl xc11 (Lay_X1.tag (f0.ext (EB.tr E6))) (lw_V q279 q281 qs0 q123 q282) hy_X1_refused rfl rfl (Nat.le_of_ble_eq_true rfl) (Nat.le_of_ble_eq_true rfl) (Nat.le_of_ble_eq_true rfl) (kkI (fun r14 m14 E14 hw => ?_))
    have hw := hw E14
    exact x_iret HE hr dX1_house_17 hw
theorem k_X1_house {G : GT} {x0 x1 : Int} {Q : Int → Hp → Prop} {h : Hp} (f0 : Lay_X1 h x0) (l : Launch) (hw : g_X1_house x0 x1 Q h) : XM G l yX1_house cX1_house 4 (some .int) 13 325 [rV x0, iV x1] (QI Q) h :=
  XM.of (by decide) (Nat.le_of_ble_eq_true rfl) (fun X HE hr hn => w_X1_house_0 HE hr f0 hw)
def g_X1_fault (x0 : Int) (Q : Int → Hp → Prop) (h : Hp) : Prop :=
  Q (hF h x0 2) h
theorem w_X1_fault_0 {G : GT} {X : ET} {h0 : Hp} {x0 : Int} (HE : XE G X cX1_fault 1 RX1 0 0 h0) (hr : XR X (some .int)) (f0 : Lay_X1 h0 x0) {Q : Int → Hp → Prop} {h : Hp} (hw : g_X1_fault x0 Q h) : Wx G X h0 (QI Q) h 0 [some (rV x0)] [] := by
  refine Wx.start (fun EB => ?_)
  unfold g_X1_fault at hw
  refine x_aload_n HE 0 dX1_fault_0 rfl rfl ?_
  refine x_gI HE dX1_fault_1 fd_X1_2 q224 (Or.inl rfl) (Lay_X1.tag (f0.ext EB)) rfl ?_
  exact x_iret HE hr dX1_fault_4 hw
theorem k_X1_fault {G : GT} {x0 : Int} {Q : Int → Hp → Prop} {h : Hp} (f0 : Lay_X1 h x0) (l : Launch) (hw : g_X1_fault x0 Q h) : XM G l yX1_fault cX1_fault 1 (some .int) 0 0 [rV x0] (QI Q) h :=
  XM.of (by decide) (Nat.le_of_ble_eq_true rfl) (fun X HE hr hn => w_X1_fault_0 HE hr f0 hw)
def g_X1_where (x0 : Int) (Q : Int → Hp → Prop) (h : Hp) : Prop :=
  Q (hF h x0 3) h
theorem w_X1_where_0 {G : GT} {X : ET} {h0 : Hp} {x0 : Int} (HE : XE G X cX1_where 1 RX1 0 0 h0) (hr : XR X (some .int)) (f0 : Lay_X1 h0 x0) {Q : Int → Hp → Prop} {h : Hp} (hw : g_X1_where x0 Q h) : Wx G X h0 (QI Q) h 0 [some (rV x0)] [] := by
  refine Wx.start (fun EB => ?_)
  unfold g_X1_where at hw
  refine x_aload_n HE 0 dX1_where_0 rfl rfl ?_
  refine x_gI HE dX1_where_1 fd_X1_3 q225 (Or.inl rfl) (Lay_X1.tag (f0.ext EB)) rfl ?_
  exact x_iret HE hr dX1_where_4 hw
theorem k_X1_where {G : GT} {x0 : Int} {Q : Int → Hp → Prop} {h : Hp} (f0 : Lay_X1 h x0) (l : Launch) (hw : g_X1_where x0 Q h) : XM G l yX1_where cX1_where 1 (some .int) 0 0 [rV x0] (QI Q) h :=
  XM.of (by decide) (Nat.le_of_ble_eq_true rfl) (fun X HE hr hn => w_X1_where_0 HE hr f0 hw)
def g_X1_isPerson_b32 (x0 x1 : Int) (Q : Int → Hp → Prop) (s0 : Int) (h : Hp) : Prop :=
  (s0 = 0 ∨ s0 = 1) ∧ Q s0 h
theorem w_X1_isPerson_32 {G : GT} {X : ET} {h0 : Hp} {x0 x1 : Int} (HE : XE G X cX1_isPerson 2 RX1 1 22 h0) (hr : XR X (some .boolean)) (f0 : Lay_X1 h0 x0) {Q : Int → Hp → Prop} {s0 : Int} {h : Hp} (hw : g_X1_isPerson_b32 x0 x1 Q s0 h) : Wx G X h0 (QI Q) h 32 [some (rV x0), some (iV x1)] [iV s0] := by
  refine Wx.start (fun EB => ?_)
  unfold g_X1_isPerson_b32 at hw
  exact x_zret HE hr dX1_isPerson_32 hw.1 hw.2
def g_X1_isPerson_b31 (x0 x1 : Int) (Q : Int → Hp → Prop) (h : Hp) : Prop :=
  g_X1_isPerson_b32 x0 x1 Q 0 h
theorem w_X1_isPerson_31 {G : GT} {X : ET} {h0 : Hp} {x0 x1 : Int} (HE : XE G X cX1_isPerson 2 RX1 1 22 h0) (hr : XR X (some .boolean)) (f0 : Lay_X1 h0 x0) {Q : Int → Hp → Prop} {h : Hp} (hw : g_X1_isPerson_b31 x0 x1 Q  h) : Wx G X h0 (QI Q) h 31 [some (rV x0), some (iV x1)] [] := by
  refine Wx.start (fun EB => ?_)
  unfold g_X1_isPerson_b31 at hw
  refine x_iconst HE dX1_isPerson_31 (by decide) ?_
  exact w_X1_isPerson_32 HE hr f0 hw
def g_X1_isPerson (x0 x1 : Int) (Q : Int → Hp → Prop) (h : Hp) : Prop :=
  (((hF h x0 5) = 0) → (g_X1_isPerson_b31 x0 x1 Q h)) ∧ ((0 < (hF h x0 5)) → ((Lay_X7 h (hF h x0 5)) ∧ (g_J2_size ((hF h x0 5) + 3) (fun r16 m16 => Ext h m16 → ((i32 (r16 - 1)) ∧ (g_X1_in x1 0 (r16 - 1) (fun r21 m21 => Ext m16 m21 → (((r21 = 0) → (g_X1_isPerson_b31 x0 x1 Q m21)) ∧ ((r21 ≠ 0) → (g_X1_isPerson_b32 x0 x1 Q 1 m21)))) m16))) h)))
theorem w_X1_isPerson_0 {G : GT} {X : ET} {h0 : Hp} {x0 x1 : Int} (HE : XE G X cX1_isPerson 2 RX1 1 22 h0) (hr : XR X (some .boolean)) (f0 : Lay_X1 h0 x0) {Q : Int → Hp → Prop} {h : Hp} (hw : g_X1_isPerson x0 x1 Q h) : Wx G X h0 (QI Q) h 0 [some (rV x0), some (iV x1)] [] := by
  refine Wx.start (fun EB => ?_)
  unfold g_X1_isPerson at hw
  refine x_aload_n HE 0 dX1_isPerson_0 rfl rfl ?_
  refine x_gR HE dX1_isPerson_1 fd_X1_5 q227 (Or.inl rfl) (Lay_X1.tag (f0.ext EB)) rfl ?_
  refine x_ifnull HE 31 dX1_isPerson_4 (by decide) (fun c4 => ?_) (fun c4 => ?_)
  · have hw := hw.1 c4
    exact w_X1_isPerson_31 HE hr f0 hw
  · have hw := hw.2 c4
    refine x_iload_n HE 1 dX1_isPerson_7 rfl rfl ?_
    refine x_iconst HE dX1_isPerson_8 (by decide) ?_
    refine x_aload_n HE 0 dX1_isPerson_9 rfl rfl ?_
    refine x_gR HE dX1_isPerson_10 fd_X1_5 q227 (Or.inl rfl) (Lay_X1.tag (f0.ext EB)) rfl ?_
    obtain ⟨v13, hw⟩ := hw
    refine x_gR HE dX1_isPerson_13 fd_X7_5 q331 (Or.inl rfl) (Lay_X7.tag v13) (Lay_X7_5 v13).1 ?_
    refine x_callV HE dX1_isPerson_16 rfl (fun l => k_J2_size ((Lay_X7_5 v13).2) l hw) (As := []) (rest := [iV 0, iV x1]) rfl xc32 ((Lay_X7_5 v13).2) (lw_V q1252 q708 q709 q128 q710) hy_J2_size rfl rfl (Nat.le_of_ble_eq_true rfl) (Nat.le_of_ble_eq_true rfl) (Nat.le_of_ble_eq_true rfl) (kkI (fun r16 m16 E16 hw => ?_))
    have hw := hw E16
    refine x_iconst HE dX1_isPerson_19 (by decide) ?_
    obtain ⟨v20, hw⟩ := hw
    refine x_isub HE dX1_isPerson_20 v20 ?_
    refine x_callS HE dX1_isPerson_21 rfl (fun l => k_X1_in  l hw) (As := [iV x1, iV 0, iV (r16 - 1)]) (rest := []) rfl (lw_S q276 q277 q123 q278) hy_X1_in.2 rfl rfl (Nat.le_of_ble_eq_true rfl) (Nat.le_of_ble_eq_true rfl) (Nat.le_of_ble_eq_true rfl) (kkI (fun r21 m21 E21 hw => ?_))
    have hw := hw E21
    refine x_if_eq HE 31 dX1_isPerson_24 (by decide) (fun c24 => ?_) (fun c24 => ?_)
    · have hw := hw.1 c24
      exact w_X1_isPerson_31 HE hr f0 hw
    · have hw := hw.2 c24
      refine x_iconst HE dX1_isPerson_27 (by decide) ?_
      refine x_goto HE 32 dX1_isPerson_28 (by decide) ?_
      exact w_X1_isPerson_32 HE hr f0 hw
theorem k_X1_isPerson {G : GT} {x0 x1 : Int} {Q : Int → Hp → Prop} {h : Hp} (f0 : Lay_X1 h x0) (l : Launch) (hw : g_X1_isPerson x0 x1 Q h) : XM G l yX1_isPerson cX1_isPerson 2 (some .boolean) 1 22 [rV x0, iV x1] (QI Q) h :=
  XM.of (by decide) (Nat.le_of_ble_eq_true rfl) (fun X HE hr hn => w_X1_isPerson_0 HE hr f0 hw)
def g_X1_person_b17 (x0 x1 x2 : Int) (Q : Int → Hp → Prop) (h : Hp) : Prop :=
  g_X1_refused x0 1 (fun r19 m19 => Ext h m19 → (Q r19 m19)) h
theorem w_X1_person_17 {G : GT} {X : ET} {h0 : Hp} {x0 x1 x2 : Int} (HE : XE G X cX1_person 3 RX1 2 43 h0) (hr : XR X (some .int)) (f0 : Lay_X1 h0 x0) {Q : Int → Hp → Prop} {h : Hp} (hw : g_X1_person_b17 x0 x1 x2 Q  h) : Wx G X h0 (QI Q) h 17 [some (rV x0), some (iV x1), some (iV x2)] [] := by
  refine Wx.start (fun EB => ?_)
  unfold g_X1_person_b17 at hw
  refine x_aload_n HE 0 dX1_person_17 rfl rfl ?_
  refine x_iconst HE dX1_person_18 (by decide) ?_
  refine x_callV HE dX1_person_19 rfl (fun l => k_X1_refused (f0.ext EB) l hw) (As := [iV 1]) (rest := []) rfl xc11 (Lay_X1.tag (f0.ext EB)) (lw_V q279 q281 qs0 q123 q282) hy_X1_refused rfl rfl (Nat.le_of_ble_eq_true rfl) (Nat.le_of_ble_eq_true rfl) (Nat.le_of_ble_eq_true rfl) (kkI (fun r19 m19 E19 hw => ?_))
  have hw := hw E19
  exact x_iret HE hr dX1_person_22 hw
def g_X1_person (x0 x1 x2 : Int) (Q : Int → Hp → Prop) (h : Hp) : Prop :=
  g_X1_isPerson x0 x1 (fun r2 m2 => Ext h m2 → (((r2 = 0) → (g_X1_person_b17 x0 x1 x2 Q m2)) ∧ ((r2 ≠ 0) → (g_X1_in x2 0 5 (fun r11 m11 => Ext m2 m11 → (((r11 ≠ 0) → (((x2 = 0) → ((Lay_X21 m11 (hF m11 x0 6)) ∧ (g_X21_doesNow (hF m11 x0 6) x1 (fun r66 m66 => Ext m11 m66 → (g_X1_well x0 r66 (fun r69 m69 => Ext m66 m69 → (Q r69 m69)) m66)) m11))) ∧ ((x2 = 1) → ((Lay_X21 m11 (hF m11 x0 6)) ∧ (((0 : Int) ≤ x1 ∧ x1 < 10) ∧ (g_X1_well x0 (hA m11 ((hF m11 x0 6) + 2) x1) (fun r83 m83 => Ext m11 m83 → (Q r83 m83)) m11)))) ∧ ((x2 = 2) → ((Lay_X21 m11 (hF m11 x0 6)) ∧ (((0 : Int) ≤ x1 ∧ x1 < 10) ∧ (g_X1_well x0 (hA m11 ((hF m11 x0 6) + 3) x1) (fun r97 m97 => Ext m11 m97 → (Q r97 m97)) m11)))) ∧ ((x2 = 3) → ((Lay_X21 m11 (hF m11 x0 6)) ∧ (((0 : Int) ≤ x1 ∧ x1 < 10) ∧ (g_X1_well x0 (hA m11 ((hF m11 x0 6) + 4) x1) (fun r111 m111 => Ext m11 m111 → (Q r111 m111)) m11)))) ∧ ((x2 = 4) → ((Lay_X21 m11 (hF m11 x0 6)) ∧ (((0 : Int) ≤ x1 ∧ x1 < 10) ∧ (g_X1_well x0 (hA m11 ((hF m11 x0 6) + 6) x1) (fun r125 m125 => Ext m11 m125 → (Q r125 m125)) m11)))) ∧ ((x2 ≠ 0 ∧ x2 ≠ 1 ∧ x2 ≠ 2 ∧ x2 ≠ 3 ∧ x2 ≠ 4) → ((Lay_X21 m11 (hF m11 x0 6)) ∧ (((0 : Int) ≤ x1 ∧ x1 < 10) ∧ (g_X1_well x0 (hA m11 ((hF m11 x0 6) + 8) x1) (fun r139 m139 => Ext m11 m139 → (Q r139 m139)) m11)))))) ∧ ((r11 = 0) → (g_X1_person_b17 x0 x1 x2 Q m11)))) m2)))) h
theorem w_X1_person_0 {G : GT} {X : ET} {h0 : Hp} {x0 x1 x2 : Int} (HE : XE G X cX1_person 3 RX1 2 43 h0) (hr : XR X (some .int)) (f0 : Lay_X1 h0 x0) {Q : Int → Hp → Prop} {h : Hp} (hw : g_X1_person x0 x1 x2 Q h) : Wx G X h0 (QI Q) h 0 [some (rV x0), some (iV x1), some (iV x2)] [] := by
  refine Wx.start (fun EB => ?_)
  unfold g_X1_person at hw
  refine x_aload_n HE 0 dX1_person_0 rfl rfl ?_
  refine x_iload_n HE 1 dX1_person_1 rfl rfl ?_
  refine x_callV HE dX1_person_2 rfl (fun l => k_X1_isPerson (f0.ext EB) l hw) (As := [iV x1]) (rest := []) rfl xc11 (Lay_X1.tag (f0.ext EB)) (lw_V q1269 q1271 qs27 q123 q1272) hy_X1_isPerson rfl rfl (Nat.le_of_ble_eq_true rfl) (Nat.le_of_ble_eq_true rfl) (Nat.le_of_ble_eq_true rfl) (kkI (fun r2 m2 E2 hw => ?_))
  have hw := hw E2
  refine x_if_eq HE 17 dX1_person_5 (by decide) (fun c5 => ?_) (fun c5 => ?_)
  · have hw := hw.1 c5
    exact w_X1_person_17 HE hr f0 hw
  · have hw := hw.2 c5
    refine x_iload_n HE 2 dX1_person_8 rfl rfl ?_
    refine x_iconst HE dX1_person_9 (by decide) ?_
    refine x_iconst HE dX1_person_10 (by decide) ?_
    refine x_callS HE dX1_person_11 rfl (fun l => k_X1_in  l hw) (As := [iV x2, iV 0, iV 5]) (rest := []) rfl (lw_S q276 q277 q123 q278) hy_X1_in.2 rfl rfl (Nat.le_of_ble_eq_true rfl) (Nat.le_of_ble_eq_true rfl) (Nat.le_of_ble_eq_true rfl) (kkI (fun r11 m11 E11 hw => ?_))
    have hw := hw E11
    refine x_if_ne HE 23 dX1_person_14 (by decide) (fun c14 => ?_) (fun c14 => ?_)
    · have hw := hw.1 c14
      refine x_iload_n HE 2 dX1_person_23 rfl rfl ?_
      by_cases s24_0 : x2 = 0
      · have hw := hw.1 s24_0
        refine x_tabIn HE 60 dX1_person_24 0 s24_0 (by decide) rfl (by decide) ?_
        refine x_aload_n HE 0 dX1_person_60 rfl rfl ?_
        refine x_aload_n HE 0 dX1_person_61 rfl rfl ?_
        refine x_gR HE dX1_person_62 fd_X1_6 q228 (Or.inl rfl) (Lay_X1.tag (f0.ext (EB.tr (E2.tr E11)))) rfl ?_
        refine x_iload_n HE 1 dX1_person_65 rfl rfl ?_
        obtain ⟨u66_0, hw⟩ := hw
        refine x_callV HE dX1_person_66 rfl (fun l => k_X21_doesNow u66_0 l hw) (As := [iV x1]) (rest := [rV x0]) rfl xc13 (Lay_X21.tag u66_0) (lw_V q1273 q1274 q1275 q157 q1276) hy_X21_doesNow rfl rfl (Nat.le_of_ble_eq_true rfl) (Nat.le_of_ble_eq_true rfl) (Nat.le_of_ble_eq_true rfl) (kkI (fun r66 m66 E66 hw => ?_))
        have hw := hw E66
        refine x_callV HE dX1_person_69 rfl (fun l => k_X1_well (f0.ext (EB.tr (E2.tr (E11.tr E66)))) l hw) (As := [iV r66]) (rest := []) rfl xc11 (Lay_X1.tag (f0.ext (EB.tr (E2.tr (E11.tr E66))))) (lw_V q1253 q1255 qs26 q123 q1256) hy_X1_well rfl rfl (Nat.le_of_ble_eq_true rfl) (Nat.le_of_ble_eq_true rfl) (Nat.le_of_ble_eq_true rfl) (kkI (fun r69 m69 E69 hw => ?_))
        have hw := hw E69
        exact x_iret HE hr dX1_person_72 hw
      have hw := hw.2
      by_cases s24_1 : x2 = 1
      · have hw := hw.1 s24_1
        refine x_tabIn HE 73 dX1_person_24 1 s24_1 (by decide) rfl (by decide) ?_
        refine x_aload_n HE 0 dX1_person_73 rfl rfl ?_
        refine x_aload_n HE 0 dX1_person_74 rfl rfl ?_
        refine x_gR HE dX1_person_75 fd_X1_6 q228 (Or.inl rfl) (Lay_X1.tag (f0.ext (EB.tr (E2.tr E11)))) rfl ?_
        obtain ⟨v78, hw⟩ := hw
        refine x_gR HE dX1_person_78 fd_X21_3 q1129 (Or.inl rfl) (Lay_X21.tag v78) (Lay_X21_3 v78).1 ?_
        refine x_iload_n HE 1 dX1_person_81 rfl rfl ?_
        obtain ⟨i82, hw⟩ := hw
        refine x_iald HE dX1_person_82 (t := 1) (by decide) ((Lay_X21_3 v78).2.1) (ix_of ((Lay_X21_3 v78).2.2) i82) rfl ?_
        refine x_callV HE dX1_person_83 rfl (fun l => k_X1_well (f0.ext (EB.tr (E2.tr E11))) l hw) (As := [iV (hA m11 ((hF m11 x0 6) + 2) x1)]) (rest := []) rfl xc11 (Lay_X1.tag (f0.ext (EB.tr (E2.tr E11)))) (lw_V q1253 q1255 qs26 q123 q1256) hy_X1_well rfl rfl (Nat.le_of_ble_eq_true rfl) (Nat.le_of_ble_eq_true rfl) (Nat.le_of_ble_eq_true rfl) (kkI (fun r83 m83 E83 hw => ?_))
        have hw := hw E83
        exact x_iret HE hr dX1_person_86 hw
      have hw := hw.2
      by_cases s24_2 : x2 = 2
      · have hw := hw.1 s24_2
        refine x_tabIn HE 87 dX1_person_24 2 s24_2 (by decide) rfl (by decide) ?_
        refine x_aload_n HE 0 dX1_person_87 rfl rfl ?_
        refine x_aload_n HE 0 dX1_person_88 rfl rfl ?_
        refine x_gR HE dX1_person_89 fd_X1_6 q228 (Or.inl rfl) (Lay_X1.tag (f0.ext (EB.tr (E2.tr E11)))) rfl ?_
        obtain ⟨v92, hw⟩ := hw
        refine x_gR HE dX1_person_92 fd_X21_4 q1132 (Or.inl rfl) (Lay_X21.tag v92) (Lay_X21_4 v92).1 ?_
        refine x_iload_n HE 1 dX1_person_95 rfl rfl ?_
        obtain ⟨i96, hw⟩ := hw
        refine x_iald HE dX1_person_96 (t := 1) (by decide) ((Lay_X21_4 v92).2.1) (ix_of ((Lay_X21_4 v92).2.2) i96) rfl ?_
        refine x_callV HE dX1_person_97 rfl (fun l => k_X1_well (f0.ext (EB.tr (E2.tr E11))) l hw) (As := [iV (hA m11 ((hF m11 x0 6) + 3) x1)]) (rest := []) rfl xc11 (Lay_X1.tag (f0.ext (EB.tr (E2.tr E11)))) (lw_V q1253 q1255 qs26 q123 q1256) hy_X1_well rfl rfl (Nat.le_of_ble_eq_true rfl) (Nat.le_of_ble_eq_true rfl) (Nat.le_of_ble_eq_true rfl) (kkI (fun r97 m97 E97 hw => ?_))
        have hw := hw E97
        exact x_iret HE hr dX1_person_100 hw
      have hw := hw.2
      by_cases s24_3 : x2 = 3
      · have hw := hw.1 s24_3
        refine x_tabIn HE 101 dX1_person_24 3 s24_3 (by decide) rfl (by decide) ?_
        refine x_aload_n HE 0 dX1_person_101 rfl rfl ?_
        refine x_aload_n HE 0 dX1_person_102 rfl rfl ?_
        refine x_gR HE dX1_person_103 fd_X1_6 q228 (Or.inl rfl) (Lay_X1.tag (f0.ext (EB.tr (E2.tr E11)))) rfl ?_
        obtain ⟨v106, hw⟩ := hw
        refine x_gR HE dX1_person_106 fd_X21_5 q1135 (Or.inl rfl) (Lay_X21.tag v106) (Lay_X21_5 v106).1 ?_
        refine x_iload_n HE 1 dX1_person_109 rfl rfl ?_
        obtain ⟨i110, hw⟩ := hw
        refine x_iald HE dX1_person_110 (t := 1) (by decide) ((Lay_X21_5 v106).2.1) (ix_of ((Lay_X21_5 v106).2.2) i110) rfl ?_
        refine x_callV HE dX1_person_111 rfl (fun l => k_X1_well (f0.ext (EB.tr (E2.tr E11))) l hw) (As := [iV (hA m11 ((hF m11 x0 6) + 4) x1)]) (rest := []) rfl xc11 (Lay_X1.tag (f0.ext (EB.tr (E2.tr E11)))) (lw_V q1253 q1255 qs26 q123 q1256) hy_X1_well rfl rfl (Nat.le_of_ble_eq_true rfl) (Nat.le_of_ble_eq_true rfl) (Nat.le_of_ble_eq_true rfl) (kkI (fun r111 m111 E111 hw => ?_))
        have hw := hw E111
        exact x_iret HE hr dX1_person_114 hw
      have hw := hw.2
      by_cases s24_4 : x2 = 4
      · have hw := hw.1 s24_4
        refine x_tabIn HE 115 dX1_person_24 4 s24_4 (by decide) rfl (by decide) ?_
        refine x_aload_n HE 0 dX1_person_115 rfl rfl ?_
        refine x_aload_n HE 0 dX1_person_116 rfl rfl ?_
        refine x_gR HE dX1_person_117 fd_X1_6 q228 (Or.inl rfl) (Lay_X1.tag (f0.ext (EB.tr (E2.tr E11)))) rfl ?_
        obtain ⟨v120, hw⟩ := hw
        refine x_gR HE dX1_person_120 fd_X21_7 q1139 (Or.inl rfl) (Lay_X21.tag v120) (Lay_X21_7 v120).1 ?_
        refine x_iload_n HE 1 dX1_person_123 rfl rfl ?_
        obtain ⟨i124, hw⟩ := hw
        refine x_iald HE dX1_person_124 (t := 1) (by decide) ((Lay_X21_7 v120).2.1) (ix_of ((Lay_X21_7 v120).2.2) i124) rfl ?_
        refine x_callV HE dX1_person_125 rfl (fun l => k_X1_well (f0.ext (EB.tr (E2.tr E11))) l hw) (As := [iV (hA m11 ((hF m11 x0 6) + 6) x1)]) (rest := []) rfl xc11 (Lay_X1.tag (f0.ext (EB.tr (E2.tr E11)))) (lw_V q1253 q1255 qs26 q123 q1256) hy_X1_well rfl rfl (Nat.le_of_ble_eq_true rfl) (Nat.le_of_ble_eq_true rfl) (Nat.le_of_ble_eq_true rfl) (kkI (fun r125 m125 E125 hw => ?_))
        have hw := hw E125
        exact x_iret HE hr dX1_person_128 hw
      have hw := hw.2
      have hw := hw ⟨s24_0, s24_1, s24_2, s24_3, s24_4⟩
      refine x_tabOut HE 129 dX1_person_24 (tabE (tabS (b := 5) (tabS (b := 4) (tabS (b := 3) (tabS (b := 2) (tabS (b := 1) (Int.lt_or_le x2 0) (by decide) s24_0) (by decide) s24_1) (by decide) s24_2) (by decide) s24_3) (by decide) s24_4) (by decide)) (by decide) ?_
      refine x_aload_n HE 0 dX1_person_129 rfl rfl ?_
      refine x_aload_n HE 0 dX1_person_130 rfl rfl ?_
      refine x_gR HE dX1_person_131 fd_X1_6 q228 (Or.inl rfl) (Lay_X1.tag (f0.ext (EB.tr (E2.tr E11)))) rfl ?_
      obtain ⟨v134, hw⟩ := hw
      refine x_gR HE dX1_person_134 fd_X21_9 q1143 (Or.inl rfl) (Lay_X21.tag v134) (Lay_X21_9 v134).1 ?_
      refine x_iload_n HE 1 dX1_person_137 rfl rfl ?_
      obtain ⟨i138, hw⟩ := hw
      refine x_iald HE dX1_person_138 (t := 1) (by decide) ((Lay_X21_9 v134).2.1) (ix_of ((Lay_X21_9 v134).2.2) i138) rfl ?_
      refine x_callV HE dX1_person_139 rfl (fun l => k_X1_well (f0.ext (EB.tr (E2.tr E11))) l hw) (As := [iV (hA m11 ((hF m11 x0 6) + 8) x1)]) (rest := []) rfl xc11 (Lay_X1.tag (f0.ext (EB.tr (E2.tr E11)))) (lw_V q1253 q1255 qs26 q123 q1256) hy_X1_well rfl rfl (Nat.le_of_ble_eq_true rfl) (Nat.le_of_ble_eq_true rfl) (Nat.le_of_ble_eq_true rfl) (kkI (fun r139 m139 E139 hw => ?_))
      have hw := hw E139
      exact x_iret HE hr dX1_person_142 hw
    · have hw := hw.2 c14
      exact w_X1_person_17 HE hr f0 hw
theorem k_X1_person {G : GT} {x0 x1 x2 : Int} {Q : Int → Hp → Prop} {h : Hp} (f0 : Lay_X1 h x0) (l : Launch) (hw : g_X1_person x0 x1 x2 Q h) : XM G l yX1_person cX1_person 3 (some .int) 2 43 [rV x0, iV x1, iV x2] (QI Q) h :=
  XM.of (by decide) (Nat.le_of_ble_eq_true rfl) (fun X HE hr hn => w_X1_person_0 HE hr f0 hw)
def g_X1_isServer_b32 (x0 x1 : Int) (Q : Int → Hp → Prop) (s0 : Int) (h : Hp) : Prop :=
  (s0 = 0 ∨ s0 = 1) ∧ Q s0 h
theorem w_X1_isServer_32 {G : GT} {X : ET} {h0 : Hp} {x0 x1 : Int} (HE : XE G X cX1_isServer 2 RX1 1 22 h0) (hr : XR X (some .boolean)) (f0 : Lay_X1 h0 x0) {Q : Int → Hp → Prop} {s0 : Int} {h : Hp} (hw : g_X1_isServer_b32 x0 x1 Q s0 h) : Wx G X h0 (QI Q) h 32 [some (rV x0), some (iV x1)] [iV s0] := by
  refine Wx.start (fun EB => ?_)
  unfold g_X1_isServer_b32 at hw
  exact x_zret HE hr dX1_isServer_32 hw.1 hw.2
def g_X1_isServer_b31 (x0 x1 : Int) (Q : Int → Hp → Prop) (h : Hp) : Prop :=
  g_X1_isServer_b32 x0 x1 Q 0 h
theorem w_X1_isServer_31 {G : GT} {X : ET} {h0 : Hp} {x0 x1 : Int} (HE : XE G X cX1_isServer 2 RX1 1 22 h0) (hr : XR X (some .boolean)) (f0 : Lay_X1 h0 x0) {Q : Int → Hp → Prop} {h : Hp} (hw : g_X1_isServer_b31 x0 x1 Q  h) : Wx G X h0 (QI Q) h 31 [some (rV x0), some (iV x1)] [] := by
  refine Wx.start (fun EB => ?_)
  unfold g_X1_isServer_b31 at hw
  refine x_iconst HE dX1_isServer_31 (by decide) ?_
  exact w_X1_isServer_32 HE hr f0 hw
def g_X1_isServer (x0 x1 : Int) (Q : Int → Hp → Prop) (h : Hp) : Prop :=
  (((hF h x0 5) = 0) → (g_X1_isServer_b31 x0 x1 Q h)) ∧ ((0 < (hF h x0 5)) → ((Lay_X7 h (hF h x0 5)) ∧ (g_J2_size ((hF h x0 5) + 2) (fun r16 m16 => Ext h m16 → ((i32 (r16 - 1)) ∧ (g_X1_in x1 0 (r16 - 1) (fun r21 m21 => Ext m16 m21 → (((r21 = 0) → (g_X1_isServer_b31 x0 x1 Q m21)) ∧ ((r21 ≠ 0) → (g_X1_isServer_b32 x0 x1 Q 1 m21)))) m16))) h)))
theorem w_X1_isServer_0 {G : GT} {X : ET} {h0 : Hp} {x0 x1 : Int} (HE : XE G X cX1_isServer 2 RX1 1 22 h0) (hr : XR X (some .boolean)) (f0 : Lay_X1 h0 x0) {Q : Int → Hp → Prop} {h : Hp} (hw : g_X1_isServer x0 x1 Q h) : Wx G X h0 (QI Q) h 0 [some (rV x0), some (iV x1)] [] := by
  refine Wx.start (fun EB => ?_)
  unfold g_X1_isServer at hw
  refine x_aload_n HE 0 dX1_isServer_0 rfl rfl ?_
  refine x_gR HE dX1_isServer_1 fd_X1_5 q227 (Or.inl rfl) (Lay_X1.tag (f0.ext EB)) rfl ?_
  refine x_ifnull HE 31 dX1_isServer_4 (by decide) (fun c4 => ?_) (fun c4 => ?_)
  · have hw := hw.1 c4
    exact w_X1_isServer_31 HE hr f0 hw
  · have hw := hw.2 c4
    refine x_iload_n HE 1 dX1_isServer_7 rfl rfl ?_
    refine x_iconst HE dX1_isServer_8 (by decide) ?_
    refine x_aload_n HE 0 dX1_isServer_9 rfl rfl ?_
    refine x_gR HE dX1_isServer_10 fd_X1_5 q227 (Or.inl rfl) (Lay_X1.tag (f0.ext EB)) rfl ?_
    obtain ⟨v13, hw⟩ := hw
    refine x_gR HE dX1_isServer_13 fd_X7_4 q326 (Or.inl rfl) (Lay_X7.tag v13) (Lay_X7_4 v13).1 ?_
    refine x_callV HE dX1_isServer_16 rfl (fun l => k_J2_size ((Lay_X7_4 v13).2) l hw) (As := []) (rest := [iV 0, iV x1]) rfl xc32 ((Lay_X7_4 v13).2) (lw_V q1252 q708 q709 q128 q710) hy_J2_size rfl rfl (Nat.le_of_ble_eq_true rfl) (Nat.le_of_ble_eq_true rfl) (Nat.le_of_ble_eq_true rfl) (kkI (fun r16 m16 E16 hw => ?_))
    have hw := hw E16
    refine x_iconst HE dX1_isServer_19 (by decide) ?_
    obtain ⟨v20, hw⟩ := hw
    refine x_isub HE dX1_isServer_20 v20 ?_
    refine x_callS HE dX1_isServer_21 rfl (fun l => k_X1_in  l hw) (As := [iV x1, iV 0, iV (r16 - 1)]) (rest := []) rfl (lw_S q276 q277 q123 q278) hy_X1_in.2 rfl rfl (Nat.le_of_ble_eq_true rfl) (Nat.le_of_ble_eq_true rfl) (Nat.le_of_ble_eq_true rfl) (kkI (fun r21 m21 E21 hw => ?_))
    have hw := hw E21
    refine x_if_eq HE 31 dX1_isServer_24 (by decide) (fun c24 => ?_) (fun c24 => ?_)
    · have hw := hw.1 c24
      exact w_X1_isServer_31 HE hr f0 hw
    · have hw := hw.2 c24
      refine x_iconst HE dX1_isServer_27 (by decide) ?_
      refine x_goto HE 32 dX1_isServer_28 (by decide) ?_
      exact w_X1_isServer_32 HE hr f0 hw
theorem k_X1_isServer {G : GT} {x0 x1 : Int} {Q : Int → Hp → Prop} {h : Hp} (f0 : Lay_X1 h x0) (l : Launch) (hw : g_X1_isServer x0 x1 Q h) : XM G l yX1_isServer cX1_isServer 2 (some .boolean) 1 22 [rV x0, iV x1] (QI Q) h :=
  XM.of (by decide) (Nat.le_of_ble_eq_true rfl) (fun X HE hr hn => w_X1_isServer_0 HE hr f0 hw)
def g_X1_staff_b64 (x0 x1 x2 : Int) (Q : Int → Hp → Prop) (s0 s1 : Int) (h : Hp) : Prop :=
  (Lay_X1 h s0) ∧ (g_X1_well s0 s1 (fun r64 m64 => Ext h m64 → (Q r64 m64)) h)
theorem w_X1_staff_64 {G : GT} {X : ET} {h0 : Hp} {x0 x1 x2 : Int} (HE : XE G X cX1_staff 3 RX1 2 53 h0) (hr : XR X (some .int)) (f0 : Lay_X1 h0 x0) {Q : Int → Hp → Prop} {s0 s1 : Int} {h : Hp} (hw : g_X1_staff_b64 x0 x1 x2 Q s0 s1 h) : Wx G X h0 (QI Q) h 64 [some (rV x0), some (iV x1), some (iV x2)] [iV s1, rV s0] := by
  refine Wx.start (fun EB => ?_)
  unfold g_X1_staff_b64 at hw
  obtain ⟨u64_0, hw⟩ := hw
  refine x_callV HE dX1_staff_64 rfl (fun l => k_X1_well u64_0 l hw) (As := [iV s1]) (rest := []) rfl xc11 (Lay_X1.tag u64_0) (lw_V q1253 q1255 qs26 q123 q1256) hy_X1_well rfl rfl (Nat.le_of_ble_eq_true rfl) (Nat.le_of_ble_eq_true rfl) (Nat.le_of_ble_eq_true rfl) (kkI (fun r64 m64 E64 hw => ?_))
  have hw := hw E64
  exact x_iret HE hr dX1_staff_67 hw
def g_X1_staff_b17 (x0 x1 x2 : Int) (Q : Int → Hp → Prop) (h : Hp) : Prop :=
  g_X1_refused x0 1 (fun r19 m19 => Ext h m19 → (Q r19 m19)) h
theorem w_X1_staff_17 {G : GT} {X : ET} {h0 : Hp} {x0 x1 x2 : Int} (HE : XE G X cX1_staff 3 RX1 2 53 h0) (hr : XR X (some .int)) (f0 : Lay_X1 h0 x0) {Q : Int → Hp → Prop} {h : Hp} (hw : g_X1_staff_b17 x0 x1 x2 Q  h) : Wx G X h0 (QI Q) h 17 [some (rV x0), some (iV x1), some (iV x2)] [] := by
  refine Wx.start (fun EB => ?_)
  unfold g_X1_staff_b17 at hw
  refine x_aload_n HE 0 dX1_staff_17 rfl rfl ?_
  refine x_iconst HE dX1_staff_18 (by decide) ?_
  refine x_callV HE dX1_staff_19 rfl (fun l => k_X1_refused (f0.ext EB) l hw) (As := [iV 1]) (rest := []) rfl xc11 (Lay_X1.tag (f0.ext EB)) (lw_V q279 q281 qs0 q123 q282) hy_X1_refused rfl rfl (Nat.le_of_ble_eq_true rfl) (Nat.le_of_ble_eq_true rfl) (Nat.le_of_ble_eq_true rfl) (kkI (fun r19 m19 E19 hw => ?_))
  have hw := hw E19
  exact x_iret HE hr dX1_staff_22 hw
def g_X1_staff (x0 x1 x2 : Int) (Q : Int → Hp → Prop) (h : Hp) : Prop :=
  g_X1_isServer x0 x1 (fun r2 m2 => Ext h m2 → (((r2 = 0) → (g_X1_staff_b17 x0 x1 x2 Q m2)) ∧ ((r2 ≠ 0) → (g_X1_in x2 0 2 (fun r11 m11 => Ext m2 m11 → (((r11 ≠ 0) → (((x2 ≠ 0) → (((x2 ≠ 1) → ((Lay_X21 m11 (hF m11 x0 6)) ∧ (g_X21_firstFree (hF m11 x0 6) x1 (fun r61 m61 => Ext m11 m61 → (g_X1_staff_b64 x0 x1 x2 Q x0 r61 m61)) m11))) ∧ ((x2 = 1) → ((Lay_X21 m11 (hF m11 x0 6)) ∧ (g_X21_busyHands (hF m11 x0 6) x1 (fun r50 m50 => Ext m11 m50 → (g_X1_staff_b64 x0 x1 x2 Q x0 r50 m50)) m11))))) ∧ ((x2 = 0) → ((Lay_X21 m11 (hF m11 x0 6)) ∧ (((0 : Int) ≤ x1 ∧ x1 < 4) ∧ (g_X1_staff_b64 x0 x1 x2 Q x0 (hA m11 ((hF m11 x0 6) + 15) x1) m11)))))) ∧ ((r11 = 0) → (g_X1_staff_b17 x0 x1 x2 Q m11)))) m2)))) h
theorem w_X1_staff_0 {G : GT} {X : ET} {h0 : Hp} {x0 x1 x2 : Int} (HE : XE G X cX1_staff 3 RX1 2 53 h0) (hr : XR X (some .int)) (f0 : Lay_X1 h0 x0) {Q : Int → Hp → Prop} {h : Hp} (hw : g_X1_staff x0 x1 x2 Q h) : Wx G X h0 (QI Q) h 0 [some (rV x0), some (iV x1), some (iV x2)] [] := by
  refine Wx.start (fun EB => ?_)
  unfold g_X1_staff at hw
  refine x_aload_n HE 0 dX1_staff_0 rfl rfl ?_
  refine x_iload_n HE 1 dX1_staff_1 rfl rfl ?_
  refine x_callV HE dX1_staff_2 rfl (fun l => k_X1_isServer (f0.ext EB) l hw) (As := [iV x1]) (rest := []) rfl xc11 (Lay_X1.tag (f0.ext EB)) (lw_V q1281 q1283 qs28 q123 q1284) hy_X1_isServer rfl rfl (Nat.le_of_ble_eq_true rfl) (Nat.le_of_ble_eq_true rfl) (Nat.le_of_ble_eq_true rfl) (kkI (fun r2 m2 E2 hw => ?_))
  have hw := hw E2
  refine x_if_eq HE 17 dX1_staff_5 (by decide) (fun c5 => ?_) (fun c5 => ?_)
  · have hw := hw.1 c5
    exact w_X1_staff_17 HE hr f0 hw
  · have hw := hw.2 c5
    refine x_iload_n HE 2 dX1_staff_8 rfl rfl ?_
    refine x_iconst HE dX1_staff_9 (by decide) ?_
    refine x_iconst HE dX1_staff_10 (by decide) ?_
    refine x_callS HE dX1_staff_11 rfl (fun l => k_X1_in  l hw) (As := [iV x2, iV 0, iV 2]) (rest := []) rfl (lw_S q276 q277 q123 q278) hy_X1_in.2 rfl rfl (Nat.le_of_ble_eq_true rfl) (Nat.le_of_ble_eq_true rfl) (Nat.le_of_ble_eq_true rfl) (kkI (fun r11 m11 E11 hw => ?_))
    have hw := hw E11
    refine x_if_ne HE 23 dX1_staff_14 (by decide) (fun c14 => ?_) (fun c14 => ?_)
    · have hw := hw.1 c14
      refine x_aload_n HE 0 dX1_staff_23 rfl rfl ?_
      refine x_iload_n HE 2 dX1_staff_24 rfl rfl ?_
      refine x_if_ne HE 40 dX1_staff_25 (by decide) (fun c25 => ?_) (fun c25 => ?_)
      · have hw := hw.1 c25
        refine x_iload_n HE 2 dX1_staff_40 rfl rfl ?_
        refine x_iconst HE dX1_staff_41 (by decide) ?_
        refine x_ic_ne HE 56 dX1_staff_42 (by decide) (fun c42 => ?_) (fun c42 => ?_)
        · have hw := hw.1 c42
          refine x_aload_n HE 0 dX1_staff_56 rfl rfl ?_
          refine x_gR HE dX1_staff_57 fd_X1_6 q228 (Or.inl rfl) (Lay_X1.tag (f0.ext (EB.tr (E2.tr E11)))) rfl ?_
          refine x_iload_n HE 1 dX1_staff_60 rfl rfl ?_
          obtain ⟨u61_0, hw⟩ := hw
          refine x_callV HE dX1_staff_61 rfl (fun l => k_X21_firstFree u61_0 l hw) (As := [iV x1]) (rest := [rV x0]) rfl xc13 (Lay_X21.tag u61_0) (lw_V q1289 q1290 q1291 q157 q1292) hy_X21_firstFree rfl rfl (Nat.le_of_ble_eq_true rfl) (Nat.le_of_ble_eq_true rfl) (Nat.le_of_ble_eq_true rfl) (kkI (fun r61 m61 E61 hw => ?_))
          have hw := hw E61
          exact w_X1_staff_64 HE hr f0 hw
        · have hw := hw.2 c42
          refine x_aload_n HE 0 dX1_staff_45 rfl rfl ?_
          refine x_gR HE dX1_staff_46 fd_X1_6 q228 (Or.inl rfl) (Lay_X1.tag (f0.ext (EB.tr (E2.tr E11)))) rfl ?_
          refine x_iload_n HE 1 dX1_staff_49 rfl rfl ?_
          obtain ⟨u50_0, hw⟩ := hw
          refine x_callV HE dX1_staff_50 rfl (fun l => k_X21_busyHands u50_0 l hw) (As := [iV x1]) (rest := [rV x0]) rfl xc13 (Lay_X21.tag u50_0) (lw_V q1285 q1286 q1287 q157 q1288) hy_X21_busyHands rfl rfl (Nat.le_of_ble_eq_true rfl) (Nat.le_of_ble_eq_true rfl) (Nat.le_of_ble_eq_true rfl) (kkI (fun r50 m50 E50 hw => ?_))
          have hw := hw E50
          refine x_goto HE 64 dX1_staff_53 (by decide) ?_
          exact w_X1_staff_64 HE hr f0 hw
      · have hw := hw.2 c25
        refine x_aload_n HE 0 dX1_staff_28 rfl rfl ?_
        refine x_gR HE dX1_staff_29 fd_X1_6 q228 (Or.inl rfl) (Lay_X1.tag (f0.ext (EB.tr (E2.tr E11)))) rfl ?_
        obtain ⟨v32, hw⟩ := hw
        refine x_gR HE dX1_staff_32 fd_X21_16 q1158 (Or.inl rfl) (Lay_X21.tag v32) (Lay_X21_16 v32).1 ?_
        refine x_iload_n HE 1 dX1_staff_35 rfl rfl ?_
        obtain ⟨i36, hw⟩ := hw
        refine x_iald HE dX1_staff_36 (t := 1) (by decide) ((Lay_X21_16 v32).2.1) (ix_of ((Lay_X21_16 v32).2.2) i36) rfl ?_
        refine x_goto HE 64 dX1_staff_37 (by decide) ?_
        exact w_X1_staff_64 HE hr f0 hw
    · have hw := hw.2 c14
      exact w_X1_staff_17 HE hr f0 hw
theorem k_X1_staff {G : GT} {x0 x1 x2 : Int} {Q : Int → Hp → Prop} {h : Hp} (f0 : Lay_X1 h x0) (l : Launch) (hw : g_X1_staff x0 x1 x2 Q h) : XM G l yX1_staff cX1_staff 3 (some .int) 2 53 [rV x0, iV x1, iV x2] (QI Q) h :=
  XM.of (by decide) (Nat.le_of_ble_eq_true rfl) (fun X HE hr hn => w_X1_staff_0 HE hr f0 hw)
def g_X1_isPlace_b29 (x0 x1 : Int) (Q : Int → Hp → Prop) (s0 : Int) (h : Hp) : Prop :=
  (s0 = 0 ∨ s0 = 1) ∧ Q s0 h
theorem w_X1_isPlace_29 {G : GT} {X : ET} {h0 : Hp} {x0 x1 : Int} (HE : XE G X cX1_isPlace 2 RX1 1 22 h0) (hr : XR X (some .boolean)) (f0 : Lay_X1 h0 x0) {Q : Int → Hp → Prop} {s0 : Int} {h : Hp} (hw : g_X1_isPlace_b29 x0 x1 Q s0 h) : Wx G X h0 (QI Q) h 29 [some (rV x0), some (iV x1)] [iV s0] := by
  refine Wx.start (fun EB => ?_)
  unfold g_X1_isPlace_b29 at hw
  exact x_zret HE hr dX1_isPlace_29 hw.1 hw.2
def g_X1_isPlace_b28 (x0 x1 : Int) (Q : Int → Hp → Prop) (h : Hp) : Prop :=
  g_X1_isPlace_b29 x0 x1 Q 0 h
theorem w_X1_isPlace_28 {G : GT} {X : ET} {h0 : Hp} {x0 x1 : Int} (HE : XE G X cX1_isPlace 2 RX1 1 22 h0) (hr : XR X (some .boolean)) (f0 : Lay_X1 h0 x0) {Q : Int → Hp → Prop} {h : Hp} (hw : g_X1_isPlace_b28 x0 x1 Q  h) : Wx G X h0 (QI Q) h 28 [some (rV x0), some (iV x1)] [] := by
  refine Wx.start (fun EB => ?_)
  unfold g_X1_isPlace_b28 at hw
  refine x_iconst HE dX1_isPlace_28 (by decide) ?_
  exact w_X1_isPlace_29 HE hr f0 hw
def g_X1_isPlace (x0 x1 : Int) (Q : Int → Hp → Prop) (h : Hp) : Prop :=
  (((hF h x0 5) = 0) → (g_X1_isPlace_b28 x0 x1 Q h)) ∧ ((0 < (hF h x0 5)) → ((Lay_X7 h (hF h x0 5)) ∧ ((i32 ((hF h (hF h x0 5) 0) - 1)) ∧ (g_X1_in x1 0 ((hF h (hF h x0 5) 0) - 1) (fun r18 m18 => Ext h m18 → (((r18 = 0) → (g_X1_isPlace_b28 x0 x1 Q m18)) ∧ ((r18 ≠ 0) → (g_X1_isPlace_b29 x0 x1 Q 1 m18)))) h))))
theorem w_X1_isPlace_0 {G : GT} {X : ET} {h0 : Hp} {x0 x1 : Int} (HE : XE G X cX1_isPlace 2 RX1 1 22 h0) (hr : XR X (some .boolean)) (f0 : Lay_X1 h0 x0) {Q : Int → Hp → Prop} {h : Hp} (hw : g_X1_isPlace x0 x1 Q h) : Wx G X h0 (QI Q) h 0 [some (rV x0), some (iV x1)] [] := by
  refine Wx.start (fun EB => ?_)
  unfold g_X1_isPlace at hw
  refine x_aload_n HE 0 dX1_isPlace_0 rfl rfl ?_
  refine x_gR HE dX1_isPlace_1 fd_X1_5 q227 (Or.inl rfl) (Lay_X1.tag (f0.ext EB)) rfl ?_
  refine x_ifnull HE 28 dX1_isPlace_4 (by decide) (fun c4 => ?_) (fun c4 => ?_)
  · have hw := hw.1 c4
    exact w_X1_isPlace_28 HE hr f0 hw
  · have hw := hw.2 c4
    refine x_iload_n HE 1 dX1_isPlace_7 rfl rfl ?_
    refine x_iconst HE dX1_isPlace_8 (by decide) ?_
    refine x_aload_n HE 0 dX1_isPlace_9 rfl rfl ?_
    refine x_gR HE dX1_isPlace_10 fd_X1_5 q227 (Or.inl rfl) (Lay_X1.tag (f0.ext EB)) rfl ?_
    obtain ⟨v13, hw⟩ := hw
    refine x_gI HE dX1_isPlace_13 fd_X7_0 q314 (Or.inl rfl) (Lay_X7.tag v13) rfl ?_
    refine x_iconst HE dX1_isPlace_16 (by decide) ?_
    obtain ⟨v17, hw⟩ := hw
    refine x_isub HE dX1_isPlace_17 v17 ?_
    refine x_callS HE dX1_isPlace_18 rfl (fun l => k_X1_in  l hw) (As := [iV x1, iV 0, iV ((hF h (hF h x0 5) 0) - 1)]) (rest := []) rfl (lw_S q276 q277 q123 q278) hy_X1_in.2 rfl rfl (Nat.le_of_ble_eq_true rfl) (Nat.le_of_ble_eq_true rfl) (Nat.le_of_ble_eq_true rfl) (kkI (fun r18 m18 E18 hw => ?_))
    have hw := hw E18
    refine x_if_eq HE 28 dX1_isPlace_21 (by decide) (fun c21 => ?_) (fun c21 => ?_)
    · have hw := hw.1 c21
      exact w_X1_isPlace_28 HE hr f0 hw
    · have hw := hw.2 c21
      refine x_iconst HE dX1_isPlace_24 (by decide) ?_
      refine x_goto HE 29 dX1_isPlace_25 (by decide) ?_
      exact w_X1_isPlace_29 HE hr f0 hw
theorem k_X1_isPlace {G : GT} {x0 x1 : Int} {Q : Int → Hp → Prop} {h : Hp} (f0 : Lay_X1 h x0) (l : Launch) (hw : g_X1_isPlace x0 x1 Q h) : XM G l yX1_isPlace cX1_isPlace 2 (some .boolean) 1 22 [rV x0, iV x1] (QI Q) h :=
  XM.of (by decide) (Nat.le_of_ble_eq_true rfl) (fun X HE hr hn => w_X1_isPlace_0 HE hr f0 hw)
def g_X1_elbows_b72 (x0 x1 : Int) (Q : Int → Hp → Prop) (l2 : Int) (h : Hp) : Prop :=
  g_X1_well x0 l2 (fun r74 m74 => Ext h m74 → (Q r74 m74)) h
theorem w_X1_elbows_72 {G : GT} {X : ET} {h0 : Hp} {x0 x1 : Int} (HE : XE G X cX1_elbows 4 RX1 2 43 h0) (hr : XR X (some .int)) (f0 : Lay_X1 h0 x0) {Q : Int → Hp → Prop} {l2 : Int} {h : Hp} (hw : g_X1_elbows_b72 x0 x1 Q l2 h) : Wx G X h0 (QI Q) h 72 [some (rV x0), some (iV x1), some (iV l2), none] [] := by
  refine Wx.start (fun EB => ?_)
  unfold g_X1_elbows_b72 at hw
  refine x_aload_n HE 0 dX1_elbows_72 rfl rfl ?_
  refine x_iload_n HE 2 dX1_elbows_73 rfl rfl ?_
  refine x_callV HE dX1_elbows_74 rfl (fun l => k_X1_well (f0.ext EB) l hw) (As := [iV l2]) (rest := []) rfl xc11 (Lay_X1.tag (f0.ext EB)) (lw_V q1253 q1255 qs26 q123 q1256) hy_X1_well rfl rfl (Nat.le_of_ble_eq_true rfl) (Nat.le_of_ble_eq_true rfl) (Nat.le_of_ble_eq_true rfl) (kkI (fun r74 m74 E74 hw => ?_))
  have hw := hw E74
  exact x_iret HE hr dX1_elbows_77 hw
def g_X1_elbows_b64 (x0 x1 : Int) (Q : Int → Hp → Prop) (K18 : Int → Int → Hp → Prop) (l3 s0 s1 : Int) (h : Hp) : Prop :=
  (i32 (s0 + s1)) ∧ (∀ y65 : Int, y65 = (s0 + s1) → ((i32 (l3 + 1)) ∧ (∀ y66 : Int, y66 = l3 + 1 → (K18 y65 y66 h))))
theorem w_X1_elbows_64 {G : GT} {X : ET} {h0 : Hp} {x0 x1 : Int} (HE : XE G X cX1_elbows 4 RX1 2 43 h0) (hr : XR X (some .int)) (f0 : Lay_X1 h0 x0) {Q : Int → Hp → Prop} {K18 : Int → Int → Hp → Prop} (hK18 : ∀ (l2 l3 : Int) (h : Hp), K18 l2 l3 h → Wx G X h0 (QI Q) h 18 [some (rV x0), some (iV x1), some (iV l2), some (iV l3)] []) {l3 s0 s1 : Int} {h : Hp} (hw : g_X1_elbows_b64 x0 x1 Q K18 l3 s0 s1 h) : Wx G X h0 (QI Q) h 64 [some (rV x0), some (iV x1), none, some (iV l3)] [iV s1, iV s0] := by
  refine Wx.start (fun EB => ?_)
  unfold g_X1_elbows_b64 at hw
  obtain ⟨v64, hw⟩ := hw
  refine x_iadd HE dX1_elbows_64 v64 ?_
  refine x_istore_nN HE 2 (fun y65 => [some (rV x0), some (iV x1), some (iV y65), some (iV l3)]) dX1_elbows_65 rfl (Nat.le_of_ble_eq_true rfl) (fun _ => rfl) (fun y65 ey65 => ?_)
  have hw := hw y65 ey65
  obtain ⟨v66, hw⟩ := hw
  refine x_iincN HE (fun y66 => [some (rV x0), some (iV x1), some (iV y65), some (iV y66)]) dX1_elbows_66 rfl v66 (Nat.le_of_ble_eq_true rfl) (fun _ => rfl) (fun y66 ey66 => ?_)
  have hw := hw y66 ey66
  refine x_goto HE 18 dX1_elbows_69 (by decide) ?_
  exact hK18 _ _ _ hw
def g_X1_elbows_b63 (x0 x1 : Int) (Q : Int → Hp → Prop) (K18 : Int → Int → Hp → Prop) (l3 s0 : Int) (h : Hp) : Prop :=
  g_X1_elbows_b64 x0 x1 Q K18 l3 s0 0 h
theorem w_X1_elbows_63 {G : GT} {X : ET} {h0 : Hp} {x0 x1 : Int} (HE : XE G X cX1_elbows 4 RX1 2 43 h0) (hr : XR X (some .int)) (f0 : Lay_X1 h0 x0) {Q : Int → Hp → Prop} {K18 : Int → Int → Hp → Prop} (hK18 : ∀ (l2 l3 : Int) (h : Hp), K18 l2 l3 h → Wx G X h0 (QI Q) h 18 [some (rV x0), some (iV x1), some (iV l2), some (iV l3)] []) {l3 s0 : Int} {h : Hp} (hw : g_X1_elbows_b63 x0 x1 Q K18 l3 s0 h) : Wx G X h0 (QI Q) h 63 [some (rV x0), some (iV x1), none, some (iV l3)] [iV s0] := by
  refine Wx.start (fun EB => ?_)
  unfold g_X1_elbows_b63 at hw
  refine x_iconst HE dX1_elbows_63 (by decide) ?_
  exact w_X1_elbows_64 HE hr f0 hK18 hw
def g_X1_elbows_L18 (x0 x1 : Int) (Q : Int → Hp → Prop) (K18 : Int → Int → Hp → Prop) (l2 l3 : Int) (h : Hp) : Prop :=
  (Lay_X7 h (hF h x0 5)) ∧ (g_J2_size ((hF h x0 5) + 3) (fun r26 m26 => Ext h m26 → (((r26 ≤ l3) → (g_X1_elbows_b72 x0 x1 Q l2 m26)) ∧ ((l3 < r26) → ((Lay_X21 m26 (hF m26 x0 6)) ∧ (((0 : Int) ≤ l3 ∧ l3 < 10) ∧ ((((hA m26 ((hF m26 x0 6) + 1) l3) ≠ 1) → (g_X1_elbows_b63 x0 x1 Q K18 l3 l2 m26)) ∧ (((hA m26 ((hF m26 x0 6) + 1) l3) = 1) → (((0 : Int) ≤ l3 ∧ l3 < 10) ∧ ((((hA m26 ((hF m26 x0 6) + 2) l3) ≠ x1) → (g_X1_elbows_b63 x0 x1 Q K18 l3 l2 m26)) ∧ (((hA m26 ((hF m26 x0 6) + 2) l3) = x1) → (g_X1_elbows_b64 x0 x1 Q K18 l3 l2 1 m26))))))))))) h)
theorem w_X1_elbows_18 {G : GT} {X : ET} {h0 : Hp} {x0 x1 : Int} (HE : XE G X cX1_elbows 4 RX1 2 43 h0) (hr : XR X (some .int)) (f0 : Lay_X1 h0 x0) {Q : Int → Hp → Prop} {K18 : Int → Int → Hp → Prop} (hK18 : ∀ (l2 l3 : Int) (h : Hp), K18 l2 l3 h → Wx G X h0 (QI Q) h 18 [some (rV x0), some (iV x1), some (iV l2), some (iV l3)] []) {l2 l3 : Int} {h : Hp} (hw : g_X1_elbows_L18 x0 x1 Q K18 l2 l3 h) : Wx G X h0 (QI Q) h 18 [some (rV x0), some (iV x1), some (iV l2), some (iV l3)] [] := by
  refine Wx.start (fun EB => ?_)
  unfold g_X1_elbows_L18 at hw
  refine x_iload_n HE 3 dX1_elbows_18 rfl rfl ?_
  refine x_aload_n HE 0 dX1_elbows_19 rfl rfl ?_
  refine x_gR HE dX1_elbows_20 fd_X1_5 q227 (Or.inl rfl) (Lay_X1.tag (f0.ext EB)) rfl ?_
  obtain ⟨v23, hw⟩ := hw
  refine x_gR HE dX1_elbows_23 fd_X7_5 q331 (Or.inl rfl) (Lay_X7.tag v23) (Lay_X7_5 v23).1 ?_
  refine x_callV HE dX1_elbows_26 rfl (fun l => k_J2_size ((Lay_X7_5 v23).2) l hw) (As := []) (rest := [iV l3]) rfl xc32 ((Lay_X7_5 v23).2) (lw_V q1252 q708 q709 q128 q710) hy_J2_size rfl rfl (Nat.le_of_ble_eq_true rfl) (Nat.le_of_ble_eq_true rfl) (Nat.le_of_ble_eq_true rfl) (kkI (fun r26 m26 E26 hw => ?_))
  have hw := hw E26
  refine x_ic_ge HE 72 dX1_elbows_29 (by decide) (fun c29 => ?_) (fun c29 => ?_)
  · have hw := hw.1 c29
    refine Wx.mask [true, true, true, false] (lo2 := [some (rV x0), some (iV x1), some (iV l2), none]) rfl ?_
    exact w_X1_elbows_72 HE hr f0 hw
  · have hw := hw.2 c29
    refine x_iload_n HE 2 dX1_elbows_32 rfl rfl ?_
    refine x_aload_n HE 0 dX1_elbows_33 rfl rfl ?_
    refine x_gR HE dX1_elbows_34 fd_X1_6 q228 (Or.inl rfl) (Lay_X1.tag (f0.ext (EB.tr E26))) rfl ?_
    obtain ⟨v37, hw⟩ := hw
    refine x_gR HE dX1_elbows_37 fd_X21_2 q1125 (Or.inl rfl) (Lay_X21.tag v37) (Lay_X21_2 v37).1 ?_
    refine x_iload_n HE 3 dX1_elbows_40 rfl rfl ?_
    obtain ⟨i41, hw⟩ := hw
    refine x_iald HE dX1_elbows_41 (t := 1) (by decide) ((Lay_X21_2 v37).2.1) (ix_of ((Lay_X21_2 v37).2.2) i41) rfl ?_
    refine x_iconst HE dX1_elbows_42 (by decide) ?_
    refine x_ic_ne HE 63 dX1_elbows_43 (by decide) (fun c43 => ?_) (fun c43 => ?_)
    · have hw := hw.1 c43
      refine Wx.mask [true, true, false, true] (lo2 := [some (rV x0), some (iV x1), none, some (iV l3)]) rfl ?_
      exact w_X1_elbows_63 HE hr f0 hK18 hw
    · have hw := hw.2 c43
      refine x_aload_n HE 0 dX1_elbows_46 rfl rfl ?_
      refine x_gR HE dX1_elbows_47 fd_X1_6 q228 (Or.inl rfl) (Lay_X1.tag (f0.ext (EB.tr E26))) rfl ?_
      refine x_gR HE dX1_elbows_50 fd_X21_3 q1129 (Or.inl rfl) (Lay_X21.tag v37) (Lay_X21_3 v37).1 ?_
      refine x_iload_n HE 3 dX1_elbows_53 rfl rfl ?_
      obtain ⟨i54, hw⟩ := hw
      refine x_iald HE dX1_elbows_54 (t := 1) (by decide) ((Lay_X21_3 v37).2.1) (ix_of ((Lay_X21_3 v37).2.2) i54) rfl ?_
      refine x_iload_n HE 1 dX1_elbows_55 rfl rfl ?_
      refine x_ic_ne HE 63 dX1_elbows_56 (by decide) (fun c56 => ?_) (fun c56 => ?_)
      · have hw := hw.1 c56
        refine Wx.mask [true, true, false, true] (lo2 := [some (rV x0), some (iV x1), none, some (iV l3)]) rfl ?_
        exact w_X1_elbows_63 HE hr f0 hK18 hw
      · have hw := hw.2 c56
        refine x_iconst HE dX1_elbows_59 (by decide) ?_
        refine x_goto HE 64 dX1_elbows_60 (by decide) ?_
        refine Wx.mask [true, true, false, true] (lo2 := [some (rV x0), some (iV x1), none, some (iV l3)]) rfl ?_
        exact w_X1_elbows_64 HE hr f0 hK18 hw
theorem wl_X1_elbows_18 {G : GT} {X : ET} {h0 : Hp} {x0 x1 : Int} (HE : XE G X cX1_elbows 4 RX1 2 43 h0) (hr : XR X (some .int)) (f0 : Lay_X1 h0 x0) {Q : Int → Hp → Prop} {l2 l3 : Int} {h : Hp} (hw : Lp2 (g_X1_elbows_L18 x0 x1 Q) l2 l3 h) : Wx G X h0 (QI Q) h 18 [some (rV x0), some (iV x1), some (iV l2), some (iV l3)] [] := by
  obtain ⟨n, hw⟩ := hw
  induction n generalizing l2 l3 h with
  | zero => exact hw.elim
  | succ n ih => exact w_X1_elbows_18 HE hr f0 (fun _ _ _ hk => ih hk) hw
def g_X1_elbows (x0 x1 : Int) (Q : Int → Hp → Prop) (h : Hp) : Prop :=
  g_X1_isPlace x0 x1 (fun r2 m2 => Ext h m2 → (((r2 ≠ 0) → (Lp2 (g_X1_elbows_L18 x0 x1 Q) 0 0 m2)) ∧ ((r2 = 0) → (g_X1_refused x0 1 (fun r10 m10 => Ext m2 m10 → (Q r10 m10)) m2)))) h
theorem w_X1_elbows_0 {G : GT} {X : ET} {h0 : Hp} {x0 x1 : Int} (HE : XE G X cX1_elbows 4 RX1 2 43 h0) (hr : XR X (some .int)) (f0 : Lay_X1 h0 x0) {Q : Int → Hp → Prop} {h : Hp} (hw : g_X1_elbows x0 x1 Q h) : Wx G X h0 (QI Q) h 0 [some (rV x0), some (iV x1), none, none] [] := by
  refine Wx.start (fun EB => ?_)
  unfold g_X1_elbows at hw
  refine x_aload_n HE 0 dX1_elbows_0 rfl rfl ?_
  refine x_iload_n HE 1 dX1_elbows_1 rfl rfl ?_
  refine x_callV HE dX1_elbows_2 rfl (fun l => k_X1_isPlace (f0.ext EB) l hw) (As := [iV x1]) (rest := []) rfl xc11 (Lay_X1.tag (f0.ext EB)) (lw_V q1299 q1301 qs29 q123 q1302) hy_X1_isPlace rfl rfl (Nat.le_of_ble_eq_true rfl) (Nat.le_of_ble_eq_true rfl) (Nat.le_of_ble_eq_true rfl) (kkI (fun r2 m2 E2 hw => ?_))
  have hw := hw E2
  refine x_if_ne HE 14 dX1_elbows_5 (by decide) (fun c5 => ?_) (fun c5 => ?_)
  · have hw := hw.1 c5
    refine x_iconst HE dX1_elbows_14 (by decide) ?_
    refine x_istore_n HE 2 (lo' := [some (rV x0), some (iV x1), some (iV 0), none]) dX1_elbows_15 rfl (Nat.le_of_ble_eq_true rfl) rfl ?_
    refine x_iconst HE dX1_elbows_16 (by decide) ?_
    refine x_istore_n HE 3 (lo' := [some (rV x0), some (iV x1), some (iV 0), some (iV 0)]) dX1_elbows_17 rfl (Nat.le_of_ble_eq_true rfl) rfl ?_
    exact wl_X1_elbows_18 HE hr f0 hw
  · have hw := hw.2 c5
    refine x_aload_n HE 0 dX1_elbows_8 rfl rfl ?_
    refine x_iconst HE dX1_elbows_9 (by decide) ?_
    refine x_callV HE dX1_elbows_10 rfl (fun l => k_X1_refused (f0.ext (EB.tr E2)) l hw) (As := [iV 1]) (rest := []) rfl xc11 (Lay_X1.tag (f0.ext (EB.tr E2))) (lw_V q279 q281 qs0 q123 q282) hy_X1_refused rfl rfl (Nat.le_of_ble_eq_true rfl) (Nat.le_of_ble_eq_true rfl) (Nat.le_of_ble_eq_true rfl) (kkI (fun r10 m10 E10 hw => ?_))
    have hw := hw E10
    exact x_iret HE hr dX1_elbows_13 hw
theorem k_X1_elbows {G : GT} {x0 x1 : Int} {Q : Int → Hp → Prop} {h : Hp} (f0 : Lay_X1 h x0) (l : Launch) (hw : g_X1_elbows x0 x1 Q h) : XM G l yX1_elbows cX1_elbows 4 (some .int) 2 43 [rV x0, iV x1] (QI Q) h :=
  XM.of (by decide) (Nat.le_of_ble_eq_true rfl) (fun X HE hr hn => w_X1_elbows_0 HE hr f0 hw)
def g_X1_waitingNow_b45 (x0 : Int) (Q : Int → Hp → Prop) (l1 : Int) (h : Hp) : Prop :=
  Q l1 h
theorem w_X1_waitingNow_45 {G : GT} {X : ET} {h0 : Hp} {x0 : Int} (HE : XE G X cX1_waitingNow 3 RX1 1 20 h0) (hr : XR X (some .int)) (f0 : Lay_X1 h0 x0) {Q : Int → Hp → Prop} {l1 : Int} {h : Hp} (hw : g_X1_waitingNow_b45 x0 Q l1 h) : Wx G X h0 (QI Q) h 45 [some (rV x0), some (iV l1), none] [] := by
  refine Wx.start (fun EB => ?_)
  unfold g_X1_waitingNow_b45 at hw
  refine x_iload_n HE 1 dX1_waitingNow_45 rfl rfl ?_
  exact x_iret HE hr dX1_waitingNow_46 hw
def g_X1_waitingNow_b37 (x0 : Int) (Q : Int → Hp → Prop) (K4 : Int → Int → Hp → Prop) (l2 s0 s1 : Int) (h : Hp) : Prop :=
  (i32 (s0 + s1)) ∧ (∀ y38 : Int, y38 = (s0 + s1) → ((i32 (l2 + 1)) ∧ (∀ y39 : Int, y39 = l2 + 1 → (K4 y38 y39 h))))
theorem w_X1_waitingNow_37 {G : GT} {X : ET} {h0 : Hp} {x0 : Int} (HE : XE G X cX1_waitingNow 3 RX1 1 20 h0) (hr : XR X (some .int)) (f0 : Lay_X1 h0 x0) {Q : Int → Hp → Prop} {K4 : Int → Int → Hp → Prop} (hK4 : ∀ (l1 l2 : Int) (h : Hp), K4 l1 l2 h → Wx G X h0 (QI Q) h 4 [some (rV x0), some (iV l1), some (iV l2)] []) {l2 s0 s1 : Int} {h : Hp} (hw : g_X1_waitingNow_b37 x0 Q K4 l2 s0 s1 h) : Wx G X h0 (QI Q) h 37 [some (rV x0), none, some (iV l2)] [iV s1, iV s0] := by
  refine Wx.start (fun EB => ?_)
  unfold g_X1_waitingNow_b37 at hw
  obtain ⟨v37, hw⟩ := hw
  refine x_iadd HE dX1_waitingNow_37 v37 ?_
  refine x_istore_nN HE 1 (fun y38 => [some (rV x0), some (iV y38), some (iV l2)]) dX1_waitingNow_38 rfl (Nat.le_of_ble_eq_true rfl) (fun _ => rfl) (fun y38 ey38 => ?_)
  have hw := hw y38 ey38
  obtain ⟨v39, hw⟩ := hw
  refine x_iincN HE (fun y39 => [some (rV x0), some (iV y38), some (iV y39)]) dX1_waitingNow_39 rfl v39 (Nat.le_of_ble_eq_true rfl) (fun _ => rfl) (fun y39 ey39 => ?_)
  have hw := hw y39 ey39
  refine x_goto HE 4 dX1_waitingNow_42 (by decide) ?_
  exact hK4 _ _ _ hw
def g_X1_waitingNow_L4 (x0 : Int) (Q : Int → Hp → Prop) (K4 : Int → Int → Hp → Prop) (l1 l2 : Int) (h : Hp) : Prop :=
  (Lay_X7 h (hF h x0 5)) ∧ (g_J2_size ((hF h x0 5) + 3) (fun r12 m12 => Ext h m12 → (((r12 ≤ l2) → (g_X1_waitingNow_b45 x0 Q l1 m12)) ∧ ((l2 < r12) → ((Lay_X21 m12 (hF m12 x0 6)) ∧ (((0 : Int) ≤ l2 ∧ l2 < 10) ∧ ((((hA m12 ((hF m12 x0 6) + 1) l2) ≠ 1) → (g_X1_waitingNow_b37 x0 Q K4 l2 l1 0 m12)) ∧ (((hA m12 ((hF m12 x0 6) + 1) l2) = 1) → (g_X1_waitingNow_b37 x0 Q K4 l2 l1 1 m12)))))))) h)
theorem w_X1_waitingNow_4 {G : GT} {X : ET} {h0 : Hp} {x0 : Int} (HE : XE G X cX1_waitingNow 3 RX1 1 20 h0) (hr : XR X (some .int)) (f0 : Lay_X1 h0 x0) {Q : Int → Hp → Prop} {K4 : Int → Int → Hp → Prop} (hK4 : ∀ (l1 l2 : Int) (h : Hp), K4 l1 l2 h → Wx G X h0 (QI Q) h 4 [some (rV x0), some (iV l1), some (iV l2)] []) {l1 l2 : Int} {h : Hp} (hw : g_X1_waitingNow_L4 x0 Q K4 l1 l2 h) : Wx G X h0 (QI Q) h 4 [some (rV x0), some (iV l1), some (iV l2)] [] := by
  refine Wx.start (fun EB => ?_)
  unfold g_X1_waitingNow_L4 at hw
  refine x_iload_n HE 2 dX1_waitingNow_4 rfl rfl ?_
  refine x_aload_n HE 0 dX1_waitingNow_5 rfl rfl ?_
  refine x_gR HE dX1_waitingNow_6 fd_X1_5 q227 (Or.inl rfl) (Lay_X1.tag (f0.ext EB)) rfl ?_
  obtain ⟨v9, hw⟩ := hw
  refine x_gR HE dX1_waitingNow_9 fd_X7_5 q331 (Or.inl rfl) (Lay_X7.tag v9) (Lay_X7_5 v9).1 ?_
  refine x_callV HE dX1_waitingNow_12 rfl (fun l => k_J2_size ((Lay_X7_5 v9).2) l hw) (As := []) (rest := [iV l2]) rfl xc32 ((Lay_X7_5 v9).2) (lw_V q1252 q708 q709 q128 q710) hy_J2_size rfl rfl (Nat.le_of_ble_eq_true rfl) (Nat.le_of_ble_eq_true rfl) (Nat.le_of_ble_eq_true rfl) (kkI (fun r12 m12 E12 hw => ?_))
  have hw := hw E12
  refine x_ic_ge HE 45 dX1_waitingNow_15 (by decide) (fun c15 => ?_) (fun c15 => ?_)
  · have hw := hw.1 c15
    refine Wx.mask [true, true, false] (lo2 := [some (rV x0), some (iV l1), none]) rfl ?_
    exact w_X1_waitingNow_45 HE hr f0 hw
  · have hw := hw.2 c15
    refine x_iload_n HE 1 dX1_waitingNow_18 rfl rfl ?_
    refine x_aload_n HE 0 dX1_waitingNow_19 rfl rfl ?_
    refine x_gR HE dX1_waitingNow_20 fd_X1_6 q228 (Or.inl rfl) (Lay_X1.tag (f0.ext (EB.tr E12))) rfl ?_
    obtain ⟨v23, hw⟩ := hw
    refine x_gR HE dX1_waitingNow_23 fd_X21_2 q1125 (Or.inl rfl) (Lay_X21.tag v23) (Lay_X21_2 v23).1 ?_
    refine x_iload_n HE 2 dX1_waitingNow_26 rfl rfl ?_
    obtain ⟨i27, hw⟩ := hw
    refine x_iald HE dX1_waitingNow_27 (t := 1) (by decide) ((Lay_X21_2 v23).2.1) (ix_of ((Lay_X21_2 v23).2.2) i27) rfl ?_
    refine x_iconst HE dX1_waitingNow_28 (by decide) ?_
    refine x_ic_ne HE 36 dX1_waitingNow_29 (by decide) (fun c29 => ?_) (fun c29 => ?_)
    · have hw := hw.1 c29
      refine x_iconst HE dX1_waitingNow_36 (by decide) ?_
      refine Wx.mask [true, false, true] (lo2 := [some (rV x0), none, some (iV l2)]) rfl ?_
      exact w_X1_waitingNow_37 HE hr f0 hK4 hw
    · have hw := hw.2 c29
      refine x_iconst HE dX1_waitingNow_32 (by decide) ?_
      refine x_goto HE 37 dX1_waitingNow_33 (by decide) ?_
      refine Wx.mask [true, false, true] (lo2 := [some (rV x0), none, some (iV l2)]) rfl ?_
      exact w_X1_waitingNow_37 HE hr f0 hK4 hw
theorem wl_X1_waitingNow_4 {G : GT} {X : ET} {h0 : Hp} {x0 : Int} (HE : XE G X cX1_waitingNow 3 RX1 1 20 h0) (hr : XR X (some .int)) (f0 : Lay_X1 h0 x0) {Q : Int → Hp → Prop} {l1 l2 : Int} {h : Hp} (hw : Lp2 (g_X1_waitingNow_L4 x0 Q) l1 l2 h) : Wx G X h0 (QI Q) h 4 [some (rV x0), some (iV l1), some (iV l2)] [] := by
  obtain ⟨n, hw⟩ := hw
  induction n generalizing l1 l2 h with
  | zero => exact hw.elim
  | succ n ih => exact w_X1_waitingNow_4 HE hr f0 (fun _ _ _ hk => ih hk) hw
def g_X1_waitingNow (x0 : Int) (Q : Int → Hp → Prop) (h : Hp) : Prop :=
  Lp2 (g_X1_waitingNow_L4 x0 Q) 0 0 h
theorem w_X1_waitingNow_0 {G : GT} {X : ET} {h0 : Hp} {x0 : Int} (HE : XE G X cX1_waitingNow 3 RX1 1 20 h0) (hr : XR X (some .int)) (f0 : Lay_X1 h0 x0) {Q : Int → Hp → Prop} {h : Hp} (hw : g_X1_waitingNow x0 Q h) : Wx G X h0 (QI Q) h 0 [some (rV x0), none, none] [] := by
  refine Wx.start (fun EB => ?_)
  unfold g_X1_waitingNow at hw
  refine x_iconst HE dX1_waitingNow_0 (by decide) ?_
  refine x_istore_n HE 1 (lo' := [some (rV x0), some (iV 0), none]) dX1_waitingNow_1 rfl (Nat.le_of_ble_eq_true rfl) rfl ?_
  refine x_iconst HE dX1_waitingNow_2 (by decide) ?_
  refine x_istore_n HE 2 (lo' := [some (rV x0), some (iV 0), some (iV 0)]) dX1_waitingNow_3 rfl (Nat.le_of_ble_eq_true rfl) rfl ?_
  exact wl_X1_waitingNow_4 HE hr f0 hw
theorem k_X1_waitingNow {G : GT} {x0 : Int} {Q : Int → Hp → Prop} {h : Hp} (f0 : Lay_X1 h x0) (l : Launch) (hw : g_X1_waitingNow x0 Q h) : XM G l yX1_waitingNow cX1_waitingNow 3 (some .int) 1 20 [rV x0] (QI Q) h :=
  XM.of (by decide) (Nat.le_of_ble_eq_true rfl) (fun X HE hr hn => w_X1_waitingNow_0 HE hr f0 hw)
def g_X1_waiting_b23 (x0 : Int) (Q : Int → Hp → Prop) (s0 : Int) (h : Hp) : Prop :=
  Q s0 h
theorem w_X1_waiting_23 {G : GT} {X : ET} {h0 : Hp} {x0 : Int} (HE : XE G X cX1_waiting 1 RX1 2 42 h0) (hr : XR X (some .int)) (f0 : Lay_X1 h0 x0) {Q : Int → Hp → Prop} {s0 : Int} {h : Hp} (hw : g_X1_waiting_b23 x0 Q s0 h) : Wx G X h0 (QI Q) h 23 [some (rV x0)] [iV s0] := by
  refine Wx.start (fun EB => ?_)
  unfold g_X1_waiting_b23 at hw
  exact x_iret HE hr dX1_waiting_23 hw
def g_X1_waiting (x0 : Int) (Q : Int → Hp → Prop) (h : Hp) : Prop :=
  ((0 < (hF h x0 5)) → (g_X1_waitingNow x0 (fun r17 m17 => Ext h m17 → (g_X1_well x0 r17 (fun r20 m20 => Ext m17 m20 → (g_X1_waiting_b23 x0 Q r20 m20)) m17)) h)) ∧ (((hF h x0 5) = 0) → (g_X1_refused x0 1 (fun r9 m9 => Ext h m9 → (g_X1_waiting_b23 x0 Q r9 m9)) h))
theorem w_X1_waiting_0 {G : GT} {X : ET} {h0 : Hp} {x0 : Int} (HE : XE G X cX1_waiting 1 RX1 2 42 h0) (hr : XR X (some .int)) (f0 : Lay_X1 h0 x0) {Q : Int → Hp → Prop} {h : Hp} (hw : g_X1_waiting x0 Q h) : Wx G X h0 (QI Q) h 0 [some (rV x0)] [] := by
  refine Wx.start (fun EB => ?_)
  unfold g_X1_waiting at hw
  refine x_aload_n HE 0 dX1_waiting_0 rfl rfl ?_
  refine x_gR HE dX1_waiting_1 fd_X1_5 q227 (Or.inl rfl) (Lay_X1.tag (f0.ext EB)) rfl ?_
  refine x_ifnonnull HE 15 dX1_waiting_4 (by decide) (fun c4 => ?_) (fun c4 => ?_)
  · have hw := hw.1 c4
    refine x_aload_n HE 0 dX1_waiting_15 rfl rfl ?_
    refine x_aload_n HE 0 dX1_waiting_16 rfl rfl ?_
    refine x_callV HE dX1_waiting_17 rfl (fun l => k_X1_waitingNow (f0.ext EB) l hw) (As := []) (rest := [rV x0]) rfl xc11 (Lay_X1.tag (f0.ext EB)) (lw_V q1307 q1309 qs30 q123 q1310) hy_X1_waitingNow rfl rfl (Nat.le_of_ble_eq_true rfl) (Nat.le_of_ble_eq_true rfl) (Nat.le_of_ble_eq_true rfl) (kkI (fun r17 m17 E17 hw => ?_))
    have hw := hw E17
    refine x_callV HE dX1_waiting_20 rfl (fun l => k_X1_well (f0.ext (EB.tr E17)) l hw) (As := [iV r17]) (rest := []) rfl xc11 (Lay_X1.tag (f0.ext (EB.tr E17))) (lw_V q1253 q1255 qs26 q123 q1256) hy_X1_well rfl rfl (Nat.le_of_ble_eq_true rfl) (Nat.le_of_ble_eq_true rfl) (Nat.le_of_ble_eq_true rfl) (kkI (fun r20 m20 E20 hw => ?_))
    have hw := hw E20
    exact w_X1_waiting_23 HE hr f0 hw
  · have hw := hw.2 c4
    refine x_aload_n HE 0 dX1_waiting_7 rfl rfl ?_
    refine x_iconst HE dX1_waiting_8 (by decide) ?_
    refine x_callV HE dX1_waiting_9 rfl (fun l => k_X1_refused (f0.ext EB) l hw) (As := [iV 1]) (rest := []) rfl xc11 (Lay_X1.tag (f0.ext EB)) (lw_V q279 q281 qs0 q123 q282) hy_X1_refused rfl rfl (Nat.le_of_ble_eq_true rfl) (Nat.le_of_ble_eq_true rfl) (Nat.le_of_ble_eq_true rfl) (kkI (fun r9 m9 E9 hw => ?_))
    have hw := hw E9
    refine x_goto HE 23 dX1_waiting_12 (by decide) ?_
    exact w_X1_waiting_23 HE hr f0 hw
theorem k_X1_waiting {G : GT} {x0 : Int} {Q : Int → Hp → Prop} {h : Hp} (f0 : Lay_X1 h x0) (l : Launch) (hw : g_X1_waiting x0 Q h) : XM G l yX1_waiting cX1_waiting 1 (some .int) 2 42 [rV x0] (QI Q) h :=
  XM.of (by decide) (Nat.le_of_ble_eq_true rfl) (fun X HE hr hn => w_X1_waiting_0 HE hr f0 hw)
def g_X1_next_b28 (x0 x1 : Int) (Q : Int → Hp → Prop) (s0 : Int) (h : Hp) : Prop :=
  Q s0 h
theorem w_X1_next_28 {G : GT} {X : ET} {h0 : Hp} {x0 x1 : Int} (HE : XE G X cX1_next 2 RX1 6 134 h0) (hr : XR X (some .int)) (f0 : Lay_X1 h0 x0) {Q : Int → Hp → Prop} {s0 : Int} {h : Hp} (hw : g_X1_next_b28 x0 x1 Q s0 h) : Wx G X h0 (QI Q) h 28 [some (rV x0), some (iV x1)] [iV s0] := by
  refine Wx.start (fun EB => ?_)
  unfold g_X1_next_b28 at hw
  exact x_iret HE hr dX1_next_28 hw
def g_X1_next (x0 x1 : Int) (Q : Int → Hp → Prop) (h : Hp) : Prop :=
  g_X1_isServer x0 x1 (fun r2 m2 => Ext h m2 → (((r2 = 0) → (g_X1_refused x0 1 (fun r25 m25 => Ext m2 m25 → (g_X1_next_b28 x0 x1 Q r25 m25)) m2)) ∧ ((r2 ≠ 0) → ((Lay_X21 m2 (hF m2 x0 6)) ∧ (g_X21_next (hF m2 x0 6) x1 (fun r14 m14 => Ext m2 m14 → (g_X1_well x0 r14 (fun r17 m17 => Ext m14 m17 → (g_X1_next_b28 x0 x1 Q r17 m17)) m14)) m2))))) h
theorem w_X1_next_0 {G : GT} {X : ET} {h0 : Hp} {x0 x1 : Int} (HE : XE G X cX1_next 2 RX1 6 134 h0) (hr : XR X (some .int)) (f0 : Lay_X1 h0 x0) {Q : Int → Hp → Prop} {h : Hp} (hw : g_X1_next x0 x1 Q h) : Wx G X h0 (QI Q) h 0 [some (rV x0), some (iV x1)] [] := by
  refine Wx.start (fun EB => ?_)
  unfold g_X1_next at hw
  refine x_aload_n HE 0 dX1_next_0 rfl rfl ?_
  refine x_iload_n HE 1 dX1_next_1 rfl rfl ?_
  refine x_callV HE dX1_next_2 rfl (fun l => k_X1_isServer (f0.ext EB) l hw) (As := [iV x1]) (rest := []) rfl xc11 (Lay_X1.tag (f0.ext EB)) (lw_V q1281 q1283 qs28 q123 q1284) hy_X1_isServer rfl rfl (Nat.le_of_ble_eq_true rfl) (Nat.le_of_ble_eq_true rfl) (Nat.le_of_ble_eq_true rfl) (kkI (fun r2 m2 E2 hw => ?_))
  have hw := hw E2
  refine x_if_eq HE 23 dX1_next_5 (by decide) (fun c5 => ?_) (fun c5 => ?_)
  · have hw := hw.1 c5
    refine x_aload_n HE 0 dX1_next_23 rfl rfl ?_
    refine x_iconst HE dX1_next_24 (by decide) ?_
    refine x_callV HE dX1_next_25 rfl (fun l => k_X1_refused (f0.ext (EB.tr E2)) l hw) (As := [iV 1]) (rest := []) rfl xc11 (Lay_X1.tag (f0.ext (EB.tr E2))) (lw_V q279 q281 qs0 q123 q282) hy_X1_refused rfl rfl (Nat.le_of_ble_eq_true rfl) (Nat.le_of_ble_eq_true rfl) (Nat.le_of_ble_eq_true rfl) (kkI (fun r25 m25 E25 hw => ?_))
    have hw := hw E25
    exact w_X1_next_28 HE hr f0 hw
  · have hw := hw.2 c5
    refine x_aload_n HE 0 dX1_next_8 rfl rfl ?_
    refine x_aload_n HE 0 dX1_next_9 rfl rfl ?_
    refine x_gR HE dX1_next_10 fd_X1_6 q228 (Or.inl rfl) (Lay_X1.tag (f0.ext (EB.tr E2))) rfl ?_
    refine x_iload_n HE 1 dX1_next_13 rfl rfl ?_
    obtain ⟨u14_0, hw⟩ := hw
    refine x_callV HE dX1_next_14 rfl (fun l => k_X21_next u14_0 l hw) (As := [iV x1]) (rest := [rV x0]) rfl xc13 (Lay_X21.tag u14_0) (lw_V q1315 q1316 q1317 q157 q1318) hy_X21_next rfl rfl (Nat.le_of_ble_eq_true rfl) (Nat.le_of_ble_eq_true rfl) (Nat.le_of_ble_eq_true rfl) (kkI (fun r14 m14 E14 hw => ?_))
    have hw := hw E14
    refine x_callV HE dX1_next_17 rfl (fun l => k_X1_well (f0.ext (EB.tr (E2.tr E14))) l hw) (As := [iV r14]) (rest := []) rfl xc11 (Lay_X1.tag (f0.ext (EB.tr (E2.tr E14)))) (lw_V q1253 q1255 qs26 q123 q1256) hy_X1_well rfl rfl (Nat.le_of_ble_eq_true rfl) (Nat.le_of_ble_eq_true rfl) (Nat.le_of_ble_eq_true rfl) (kkI (fun r17 m17 E17 hw => ?_))
    have hw := hw E17
    refine x_goto HE 28 dX1_next_20 (by decide) ?_
    exact w_X1_next_28 HE hr f0 hw
theorem k_X1_next {G : GT} {x0 x1 : Int} {Q : Int → Hp → Prop} {h : Hp} (f0 : Lay_X1 h x0) (l : Launch) (hw : g_X1_next x0 x1 Q h) : XM G l yX1_next cX1_next 2 (some .int) 6 134 [rV x0, iV x1] (QI Q) h :=
  XM.of (by decide) (Nat.le_of_ble_eq_true rfl) (fun X HE hr hn => w_X1_next_0 HE hr f0 hw)
def g_X1_time_b37 (x0 x1 x2 : Int) (Q : Int → Hp → Prop) (s0 : Int) (h : Hp) : Prop :=
  Q s0 h
theorem w_X1_time_37 {G : GT} {X : ET} {h0 : Hp} {x0 x1 x2 : Int} (HE : XE G X cX1_time 3 RX1 5 110 h0) (hr : XR X (some .int)) (f0 : Lay_X1 h0 x0) {Q : Int → Hp → Prop} {s0 : Int} {h : Hp} (hw : g_X1_time_b37 x0 x1 x2 Q s0 h) : Wx G X h0 (QI Q) h 37 [some (rV x0), some (iV x1), some (iV x2)] [iV s0] := by
  refine Wx.start (fun EB => ?_)
  unfold g_X1_time_b37 at hw
  exact x_iret HE hr dX1_time_37 hw
def g_X1_time_b32 (x0 x1 x2 : Int) (Q : Int → Hp → Prop) (h : Hp) : Prop :=
  g_X1_refused x0 1 (fun r34 m34 => Ext h m34 → (g_X1_time_b37 x0 x1 x2 Q r34 m34)) h
theorem w_X1_time_32 {G : GT} {X : ET} {h0 : Hp} {x0 x1 x2 : Int} (HE : XE G X cX1_time 3 RX1 5 110 h0) (hr : XR X (some .int)) (f0 : Lay_X1 h0 x0) {Q : Int → Hp → Prop} {h : Hp} (hw : g_X1_time_b32 x0 x1 x2 Q  h) : Wx G X h0 (QI Q) h 32 [some (rV x0), some (iV x1), some (iV x2)] [] := by
  refine Wx.start (fun EB => ?_)
  unfold g_X1_time_b32 at hw
  refine x_aload_n HE 0 dX1_time_32 rfl rfl ?_
  refine x_iconst HE dX1_time_33 (by decide) ?_
  refine x_callV HE dX1_time_34 rfl (fun l => k_X1_refused (f0.ext EB) l hw) (As := [iV 1]) (rest := []) rfl xc11 (Lay_X1.tag (f0.ext EB)) (lw_V q279 q281 qs0 q123 q282) hy_X1_refused rfl rfl (Nat.le_of_ble_eq_true rfl) (Nat.le_of_ble_eq_true rfl) (Nat.le_of_ble_eq_true rfl) (kkI (fun r34 m34 E34 hw => ?_))
  have hw := hw E34
  exact w_X1_time_37 HE hr f0 hw
def g_X1_time (x0 x1 x2 : Int) (Q : Int → Hp → Prop) (h : Hp) : Prop :=
  g_X1_isServer x0 x1 (fun r2 m2 => Ext h m2 → (((r2 = 0) → (g_X1_time_b32 x0 x1 x2 Q m2)) ∧ ((r2 ≠ 0) → (g_X1_isPerson x0 x2 (fun r10 m10 => Ext m2 m10 → (((r10 = 0) → (g_X1_time_b32 x0 x1 x2 Q m10)) ∧ ((r10 ≠ 0) → ((Lay_X21 m10 (hF m10 x0 6)) ∧ (g_X21_time (hF m10 x0 6) x1 x2 (fun r23 m23 => Ext m10 m23 → (g_X1_well x0 r23 (fun r26 m26 => Ext m23 m26 → (g_X1_time_b37 x0 x1 x2 Q r26 m26)) m23)) m10))))) m2)))) h
theorem w_X1_time_0 {G : GT} {X : ET} {h0 : Hp} {x0 x1 x2 : Int} (HE : XE G X cX1_time 3 RX1 5 110 h0) (hr : XR X (some .int)) (f0 : Lay_X1 h0 x0) {Q : Int → Hp → Prop} {h : Hp} (hw : g_X1_time x0 x1 x2 Q h) : Wx G X h0 (QI Q) h 0 [some (rV x0), some (iV x1), some (iV x2)] [] := by
  refine Wx.start (fun EB => ?_)
  unfold g_X1_time at hw
  refine x_aload_n HE 0 dX1_time_0 rfl rfl ?_
  refine x_iload_n HE 1 dX1_time_1 rfl rfl ?_
  refine x_callV HE dX1_time_2 rfl (fun l => k_X1_isServer (f0.ext EB) l hw) (As := [iV x1]) (rest := []) rfl xc11 (Lay_X1.tag (f0.ext EB)) (lw_V q1281 q1283 qs28 q123 q1284) hy_X1_isServer rfl rfl (Nat.le_of_ble_eq_true rfl) (Nat.le_of_ble_eq_true rfl) (Nat.le_of_ble_eq_true rfl) (kkI (fun r2 m2 E2 hw => ?_))
  have hw := hw E2
  refine x_if_eq HE 32 dX1_time_5 (by decide) (fun c5 => ?_) (fun c5 => ?_)
  · have hw := hw.1 c5
    exact w_X1_time_32 HE hr f0 hw
  · have hw := hw.2 c5
    refine x_aload_n HE 0 dX1_time_8 rfl rfl ?_
    refine x_iload_n HE 2 dX1_time_9 rfl rfl ?_
    refine x_callV HE dX1_time_10 rfl (fun l => k_X1_isPerson (f0.ext (EB.tr E2)) l hw) (As := [iV x2]) (rest := []) rfl xc11 (Lay_X1.tag (f0.ext (EB.tr E2))) (lw_V q1269 q1271 qs27 q123 q1272) hy_X1_isPerson rfl rfl (Nat.le_of_ble_eq_true rfl) (Nat.le_of_ble_eq_true rfl) (Nat.le_of_ble_eq_true rfl) (kkI (fun r10 m10 E10 hw => ?_))
    have hw := hw E10
    refine x_if_eq HE 32 dX1_time_13 (by decide) (fun c13 => ?_) (fun c13 => ?_)
    · have hw := hw.1 c13
      exact w_X1_time_32 HE hr f0 hw
    · have hw := hw.2 c13
      refine x_aload_n HE 0 dX1_time_16 rfl rfl ?_
      refine x_aload_n HE 0 dX1_time_17 rfl rfl ?_
      refine x_gR HE dX1_time_18 fd_X1_6 q228 (Or.inl rfl) (Lay_X1.tag (f0.ext (EB.tr (E2.tr E10)))) rfl ?_
      refine x_iload_n HE 1 dX1_time_21 rfl rfl ?_
      refine x_iload_n HE 2 dX1_time_22 rfl rfl ?_
      obtain ⟨u23_0, hw⟩ := hw
      refine x_callV HE dX1_time_23 rfl (fun l => k_X21_time u23_0 l hw) (As := [iV x1, iV x2]) (rest := [rV x0]) rfl xc13 (Lay_X21.tag u23_0) (lw_V q1361 q1362 q1363 q157 q1364) hy_X21_time rfl rfl (Nat.le_of_ble_eq_true rfl) (Nat.le_of_ble_eq_true rfl) (Nat.le_of_ble_eq_true rfl) (kkI (fun r23 m23 E23 hw => ?_))
      have hw := hw E23
      refine x_callV HE dX1_time_26 rfl (fun l => k_X1_well (f0.ext (EB.tr (E2.tr (E10.tr E23)))) l hw) (As := [iV r23]) (rest := []) rfl xc11 (Lay_X1.tag (f0.ext (EB.tr (E2.tr (E10.tr E23))))) (lw_V q1253 q1255 qs26 q123 q1256) hy_X1_well rfl rfl (Nat.le_of_ble_eq_true rfl) (Nat.le_of_ble_eq_true rfl) (Nat.le_of_ble_eq_true rfl) (kkI (fun r26 m26 E26 hw => ?_))
      have hw := hw E26
      refine x_goto HE 37 dX1_time_29 (by decide) ?_
      exact w_X1_time_37 HE hr f0 hw
theorem k_X1_time {G : GT} {x0 x1 x2 : Int} {Q : Int → Hp → Prop} {h : Hp} (f0 : Lay_X1 h x0) (l : Launch) (hw : g_X1_time x0 x1 x2 Q h) : XM G l yX1_time cX1_time 3 (some .int) 5 110 [rV x0, iV x1, iV x2] (QI Q) h :=
  XM.of (by decide) (Nat.le_of_ble_eq_true rfl) (fun X HE hr hn => w_X1_time_0 HE hr f0 hw)
def g_X1_costs_b28 (x0 x1 : Int) (Q : Int → Hp → Prop) (s0 : Int) (h : Hp) : Prop :=
  Q s0 h
theorem w_X1_costs_28 {G : GT} {X : ET} {h0 : Hp} {x0 x1 : Int} (HE : XE G X cX1_costs 2 RX1 4 87 h0) (hr : XR X (some .int)) (f0 : Lay_X1 h0 x0) {Q : Int → Hp → Prop} {s0 : Int} {h : Hp} (hw : g_X1_costs_b28 x0 x1 Q s0 h) : Wx G X h0 (QI Q) h 28 [some (rV x0), some (iV x1)] [iV s0] := by
  refine Wx.start (fun EB => ?_)
  unfold g_X1_costs_b28 at hw
  exact x_iret HE hr dX1_costs_28 hw
def g_X1_costs (x0 x1 : Int) (Q : Int → Hp → Prop) (h : Hp) : Prop :=
  g_X1_isPerson x0 x1 (fun r2 m2 => Ext h m2 → (((r2 = 0) → (g_X1_refused x0 1 (fun r25 m25 => Ext m2 m25 → (g_X1_costs_b28 x0 x1 Q r25 m25)) m2)) ∧ ((r2 ≠ 0) → ((Lay_X7 m2 (hF m2 x0 5)) ∧ (g_X7_costs (hF m2 x0 5) x1 (fun r14 m14 => Ext m2 m14 → (g_X1_well x0 r14 (fun r17 m17 => Ext m14 m17 → (g_X1_costs_b28 x0 x1 Q r17 m17)) m14)) m2))))) h
theorem w_X1_costs_0 {G : GT} {X : ET} {h0 : Hp} {x0 x1 : Int} (HE : XE G X cX1_costs 2 RX1 4 87 h0) (hr : XR X (some .int)) (f0 : Lay_X1 h0 x0) {Q : Int → Hp → Prop} {h : Hp} (hw : g_X1_costs x0 x1 Q h) : Wx G X h0 (QI Q) h 0 [some (rV x0), some (iV x1)] [] := by
  refine Wx.start (fun EB => ?_)
  unfold g_X1_costs at hw
  refine x_aload_n HE 0 dX1_costs_0 rfl rfl ?_
  refine x_iload_n HE 1 dX1_costs_1 rfl rfl ?_
  refine x_callV HE dX1_costs_2 rfl (fun l => k_X1_isPerson (f0.ext EB) l hw) (As := [iV x1]) (rest := []) rfl xc11 (Lay_X1.tag (f0.ext EB)) (lw_V q1269 q1271 qs27 q123 q1272) hy_X1_isPerson rfl rfl (Nat.le_of_ble_eq_true rfl) (Nat.le_of_ble_eq_true rfl) (Nat.le_of_ble_eq_true rfl) (kkI (fun r2 m2 E2 hw => ?_))
  have hw := hw E2
  refine x_if_eq HE 23 dX1_costs_5 (by decide) (fun c5 => ?_) (fun c5 => ?_)
  · have hw := hw.1 c5
    refine x_aload_n HE 0 dX1_costs_23 rfl rfl ?_
    refine x_iconst HE dX1_costs_24 (by decide) ?_
    refine x_callV HE dX1_costs_25 rfl (fun l => k_X1_refused (f0.ext (EB.tr E2)) l hw) (As := [iV 1]) (rest := []) rfl xc11 (Lay_X1.tag (f0.ext (EB.tr E2))) (lw_V q279 q281 qs0 q123 q282) hy_X1_refused rfl rfl (Nat.le_of_ble_eq_true rfl) (Nat.le_of_ble_eq_true rfl) (Nat.le_of_ble_eq_true rfl) (kkI (fun r25 m25 E25 hw => ?_))
    have hw := hw E25
    exact w_X1_costs_28 HE hr f0 hw
  · have hw := hw.2 c5
    refine x_aload_n HE 0 dX1_costs_8 rfl rfl ?_
    refine x_aload_n HE 0 dX1_costs_9 rfl rfl ?_
    refine x_gR HE dX1_costs_10 fd_X1_5 q227 (Or.inl rfl) (Lay_X1.tag (f0.ext (EB.tr E2))) rfl ?_
    refine x_iload_n HE 1 dX1_costs_13 rfl rfl ?_
    obtain ⟨u14_0, hw⟩ := hw
    refine x_callV HE dX1_costs_14 rfl (fun l => k_X7_costs u14_0 l hw) (As := [iV x1]) (rest := [rV x0]) rfl xc12 (Lay_X7.tag u14_0) (lw_V q1377 q1378 q1379 q132 q1380) hy_X7_costs rfl rfl (Nat.le_of_ble_eq_true rfl) (Nat.le_of_ble_eq_true rfl) (Nat.le_of_ble_eq_true rfl) (kkI (fun r14 m14 E14 hw => ?_))
    have hw := hw E14
    refine x_callV HE dX1_costs_17 rfl (fun l => k_X1_well (f0.ext (EB.tr (E2.tr E14))) l hw) (As := [iV r14]) (rest := []) rfl xc11 (Lay_X1.tag (f0.ext (EB.tr (E2.tr E14)))) (lw_V q1253 q1255 qs26 q123 q1256) hy_X1_well rfl rfl (Nat.le_of_ble_eq_true rfl) (Nat.le_of_ble_eq_true rfl) (Nat.le_of_ble_eq_true rfl) (kkI (fun r17 m17 E17 hw => ?_))
    have hw := hw E17
    refine x_goto HE 28 dX1_costs_20 (by decide) ?_
    exact w_X1_costs_28 HE hr f0 hw
theorem k_X1_costs {G : GT} {x0 x1 : Int} {Q : Int → Hp → Prop} {h : Hp} (f0 : Lay_X1 h x0) (l : Launch) (hw : g_X1_costs x0 x1 Q h) : XM G l yX1_costs cX1_costs 2 (some .int) 4 87 [rV x0, iV x1] (QI Q) h :=
  XM.of (by decide) (Nat.le_of_ble_eq_true rfl) (fun X HE hr hn => w_X1_costs_0 HE hr f0 hw)
def g_X1_toCome_b31 (x0 : Int) (Q : Int → Hp → Prop) (h : Hp) : Prop :=
  Q (hF h x0 8) h
theorem w_X1_toCome_31 {G : GT} {X : ET} {h0 : Hp} {x0 : Int} (HE : XE G X cX1_toCome 1 RX1 9 198 h0) (hr : XR X (some (.object "NextAtBar$Ba\x72"))) (f0 : Lay_X1 h0 x0) {Q : Int → Hp → Prop} {h : Hp} (hw : g_X1_toCome_b31 x0 Q  h) : Wx G X h0 (QR Q) h 31 [some (rV x0)] [] := by
  refine Wx.start (fun EB => ?_)
  unfold g_X1_toCome_b31 at hw
  refine x_aload_n HE 0 dX1_toCome_31 rfl rfl ?_
  refine x_gR HE dX1_toCome_32 fd_X1_8 q230 (Or.inl rfl) (Lay_X1.tag (f0.ext EB)) rfl ?_
  exact x_aret HE hr (Or.inl ⟨_, rfl⟩) dX1_toCome_35 hw
def g_X1_toCome (x0 : Int) (Q : Int → Hp → Prop) (h : Hp) : Prop :=
  (((hF h x0 10) ≠ 0) → (g_X1_toCome_b31 x0 Q h)) ∧ (((hF h x0 10) = 0) → ((Lay_X21 h (hF h x0 8)) ∧ (g_X21_takes (hF h x0 8) (hF h x0 6) (fun m15 => Ext h m15 → ((Lay_X21 m15 (hF m15 x0 8)) ∧ (g_X21_evening (hF m15 x0 8) (fun r22 m22 => Ext m15 m22 → (∀ m28 : Hp, m28 = setF m22 x0 10 1 → (g_X1_toCome_b31 x0 Q m28))) m15))) h)))
theorem w_X1_toCome_0 {G : GT} {X : ET} {h0 : Hp} {x0 : Int} (HE : XE G X cX1_toCome 1 RX1 9 198 h0) (hr : XR X (some (.object "NextAtBar$Ba\x72"))) (f0 : Lay_X1 h0 x0) {Q : Int → Hp → Prop} {h : Hp} (hw : g_X1_toCome x0 Q h) : Wx G X h0 (QR Q) h 0 [some (rV x0)] [] := by
  refine Wx.start (fun EB => ?_)
  unfold g_X1_toCome at hw
  refine x_aload_n HE 0 dX1_toCome_0 rfl rfl ?_
  refine x_gI HE dX1_toCome_1 fd_X1_10 q232 (Or.inl rfl) (Lay_X1.tag (f0.ext EB)) rfl ?_
  refine x_if_ne HE 31 dX1_toCome_4 (by decide) (fun c4 => ?_) (fun c4 => ?_)
  · have hw := hw.1 c4
    exact w_X1_toCome_31 HE hr f0 hw
  · have hw := hw.2 c4
    refine x_aload_n HE 0 dX1_toCome_7 rfl rfl ?_
    refine x_gR HE dX1_toCome_8 fd_X1_8 q230 (Or.inl rfl) (Lay_X1.tag (f0.ext EB)) rfl ?_
    refine x_aload_n HE 0 dX1_toCome_11 rfl rfl ?_
    refine x_gR HE dX1_toCome_12 fd_X1_6 q228 (Or.inl rfl) (Lay_X1.tag (f0.ext EB)) rfl ?_
    obtain ⟨u15_0, hw⟩ := hw
    refine x_callV HE dX1_toCome_15 rfl (fun l => k_X21_takes u15_0 l hw) (As := [rV (hF h x0 6)]) (rest := []) rfl xc13 (Lay_X21.tag u15_0) (lw_V q1389 q1240 q1241 q157 q1242) hy_X21_takes rfl rfl (Nat.le_of_ble_eq_true rfl) (Nat.le_of_ble_eq_true rfl) (Nat.le_of_ble_eq_true rfl) (kkV (fun m15 E15 hw => ?_))
    have hw := hw E15
    refine x_aload_n HE 0 dX1_toCome_18 rfl rfl ?_
    refine x_gR HE dX1_toCome_19 fd_X1_8 q230 (Or.inl rfl) (Lay_X1.tag (f0.ext (EB.tr E15))) rfl ?_
    obtain ⟨u22_0, hw⟩ := hw
    refine x_callV HE dX1_toCome_22 rfl (fun l => k_X21_evening u22_0 l hw) (As := []) (rest := []) rfl xc13 (Lay_X21.tag u22_0) (lw_V q1390 q1391 q1392 q157 q1393) hy_X21_evening rfl rfl (Nat.le_of_ble_eq_true rfl) (Nat.le_of_ble_eq_true rfl) (Nat.le_of_ble_eq_true rfl) (kkR (fun r22 m22 E22 hw => ?_))
    have hw := hw E22
    refine x_pop HE dX1_toCome_25 (fun o => o) ?_
    refine x_aload_n HE 0 dX1_toCome_26 rfl rfl ?_
    refine x_iconst HE dX1_toCome_27 (by decide) ?_
    refine x_pI HE dX1_toCome_28 fd_X1_10 q232 (Or.inl rfl) (Or.inl rfl) (nf_bool (by decide)) (Lay_X1.tag (f0.ext (EB.tr (E15.tr E22)))) (nro (by decide)) (Or.inl nf_X1_10) (fun m28 em28 E28 => ?_)
    have hw := hw m28 em28
    exact w_X1_toCome_31 HE hr f0 hw
theorem k_X1_toCome {G : GT} {x0 : Int} {Q : Int → Hp → Prop} {h : Hp} (f0 : Lay_X1 h x0) (l : Launch) (hw : g_X1_toCome x0 Q h) : XM G l yX1_toCome cX1_toCome 1 (some (.object "NextAtBar$Ba\x72")) 9 198 [rV x0] (QR Q) h :=
  XM.of (by decide) (Nat.le_of_ble_eq_true rfl) (fun X HE hr hn => w_X1_toCome_0 HE hr f0 hw)
def g_X1_fate_b28 (x0 x1 : Int) (Q : Int → Hp → Prop) (s0 : Int) (h : Hp) : Prop :=
  Q s0 h
theorem w_X1_fate_28 {G : GT} {X : ET} {h0 : Hp} {x0 x1 : Int} (HE : XE G X cX1_fate 2 RX1 10 218 h0) (hr : XR X (some .int)) (f0 : Lay_X1 h0 x0) {Q : Int → Hp → Prop} {s0 : Int} {h : Hp} (hw : g_X1_fate_b28 x0 x1 Q s0 h) : Wx G X h0 (QI Q) h 28 [some (rV x0), some (iV x1)] [iV s0] := by
  refine Wx.start (fun EB => ?_)
  unfold g_X1_fate_b28 at hw
  exact x_iret HE hr dX1_fate_28 hw
def g_X1_fate (x0 x1 : Int) (Q : Int → Hp → Prop) (h : Hp) : Prop :=
  g_X1_isPerson x0 x1 (fun r2 m2 => Ext h m2 → (((r2 = 0) → (g_X1_refused x0 1 (fun r25 m25 => Ext m2 m25 → (g_X1_fate_b28 x0 x1 Q r25 m25)) m2)) ∧ ((r2 ≠ 0) → (g_X1_toCome x0 (fun r10 m10 => Ext m2 m10 → ((Lay_X21 m10 r10) ∧ (g_X21_fate r10 x1 (fun r14 m14 => Ext m10 m14 → (g_X1_well x0 r14 (fun r17 m17 => Ext m14 m17 → (g_X1_fate_b28 x0 x1 Q r17 m17)) m14)) m10))) m2)))) h
theorem w_X1_fate_0 {G : GT} {X : ET} {h0 : Hp} {x0 x1 : Int} (HE : XE G X cX1_fate 2 RX1 10 218 h0) (hr : XR X (some .int)) (f0 : Lay_X1 h0 x0) {Q : Int → Hp → Prop} {h : Hp} (hw : g_X1_fate x0 x1 Q h) : Wx G X h0 (QI Q) h 0 [some (rV x0), some (iV x1)] [] := by
  refine Wx.start (fun EB => ?_)
  unfold g_X1_fate at hw
  refine x_aload_n HE 0 dX1_fate_0 rfl rfl ?_
  refine x_iload_n HE 1 dX1_fate_1 rfl rfl ?_
  refine x_callV HE dX1_fate_2 rfl (fun l => k_X1_isPerson (f0.ext EB) l hw) (As := [iV x1]) (rest := []) rfl xc11 (Lay_X1.tag (f0.ext EB)) (lw_V q1269 q1271 qs27 q123 q1272) hy_X1_isPerson rfl rfl (Nat.le_of_ble_eq_true rfl) (Nat.le_of_ble_eq_true rfl) (Nat.le_of_ble_eq_true rfl) (kkI (fun r2 m2 E2 hw => ?_))
  have hw := hw E2
  refine x_if_eq HE 23 dX1_fate_5 (by decide) (fun c5 => ?_) (fun c5 => ?_)
  · have hw := hw.1 c5
    refine x_aload_n HE 0 dX1_fate_23 rfl rfl ?_
    refine x_iconst HE dX1_fate_24 (by decide) ?_
    refine x_callV HE dX1_fate_25 rfl (fun l => k_X1_refused (f0.ext (EB.tr E2)) l hw) (As := [iV 1]) (rest := []) rfl xc11 (Lay_X1.tag (f0.ext (EB.tr E2))) (lw_V q279 q281 qs0 q123 q282) hy_X1_refused rfl rfl (Nat.le_of_ble_eq_true rfl) (Nat.le_of_ble_eq_true rfl) (Nat.le_of_ble_eq_true rfl) (kkI (fun r25 m25 E25 hw => ?_))
    have hw := hw E25
    exact w_X1_fate_28 HE hr f0 hw
  · have hw := hw.2 c5
    refine x_aload_n HE 0 dX1_fate_8 rfl rfl ?_
    refine x_aload_n HE 0 dX1_fate_9 rfl rfl ?_
    refine x_callV HE dX1_fate_10 rfl (fun l => k_X1_toCome (f0.ext (EB.tr E2)) l hw) (As := []) (rest := [rV x0]) rfl xc11 (Lay_X1.tag (f0.ext (EB.tr E2))) (lw_V q1385 q1387 qs32 q123 q1388) hy_X1_toCome rfl rfl (Nat.le_of_ble_eq_true rfl) (Nat.le_of_ble_eq_true rfl) (Nat.le_of_ble_eq_true rfl) (kkR (fun r10 m10 E10 hw => ?_))
    have hw := hw E10
    refine x_iload_n HE 1 dX1_fate_13 rfl rfl ?_
    obtain ⟨u14_0, hw⟩ := hw
    refine x_callV HE dX1_fate_14 rfl (fun l => k_X21_fate u14_0 l hw) (As := [iV x1]) (rest := [rV x0]) rfl xc13 (Lay_X21.tag u14_0) (lw_V q1417 q1418 q1419 q157 q1420) hy_X21_fate rfl rfl (Nat.le_of_ble_eq_true rfl) (Nat.le_of_ble_eq_true rfl) (Nat.le_of_ble_eq_true rfl) (kkI (fun r14 m14 E14 hw => ?_))
    have hw := hw E14
    refine x_callV HE dX1_fate_17 rfl (fun l => k_X1_well (f0.ext (EB.tr (E2.tr (E10.tr E14)))) l hw) (As := [iV r14]) (rest := []) rfl xc11 (Lay_X1.tag (f0.ext (EB.tr (E2.tr (E10.tr E14))))) (lw_V q1253 q1255 qs26 q123 q1256) hy_X1_well rfl rfl (Nat.le_of_ble_eq_true rfl) (Nat.le_of_ble_eq_true rfl) (Nat.le_of_ble_eq_true rfl) (kkI (fun r17 m17 E17 hw => ?_))
    have hw := hw E17
    refine x_goto HE 28 dX1_fate_20 (by decide) ?_
    exact w_X1_fate_28 HE hr f0 hw
theorem k_X1_fate {G : GT} {x0 x1 : Int} {Q : Int → Hp → Prop} {h : Hp} (f0 : Lay_X1 h x0) (l : Launch) (hw : g_X1_fate x0 x1 Q h) : XM G l yX1_fate cX1_fate 2 (some .int) 10 218 [rV x0, iV x1] (QI Q) h :=
  XM.of (by decide) (Nat.le_of_ble_eq_true rfl) (fun X HE hr hn => w_X1_fate_0 HE hr f0 hw)
def g_X1_waits_b28 (x0 x1 : Int) (Q : Int → Hp → Prop) (s0 : Int) (h : Hp) : Prop :=
  Q s0 h
theorem w_X1_waits_28 {G : GT} {X : ET} {h0 : Hp} {x0 x1 : Int} (HE : XE G X cX1_waits 2 RX1 10 218 h0) (hr : XR X (some .int)) (f0 : Lay_X1 h0 x0) {Q : Int → Hp → Prop} {s0 : Int} {h : Hp} (hw : g_X1_waits_b28 x0 x1 Q s0 h) : Wx G X h0 (QI Q) h 28 [some (rV x0), some (iV x1)] [iV s0] := by
  refine Wx.start (fun EB => ?_)
  unfold g_X1_waits_b28 at hw
  exact x_iret HE hr dX1_waits_28 hw
def g_X1_waits (x0 x1 : Int) (Q : Int → Hp → Prop) (h : Hp) : Prop :=
  g_X1_isPerson x0 x1 (fun r2 m2 => Ext h m2 → (((r2 = 0) → (g_X1_refused x0 1 (fun r25 m25 => Ext m2 m25 → (g_X1_waits_b28 x0 x1 Q r25 m25)) m2)) ∧ ((r2 ≠ 0) → (g_X1_toCome x0 (fun r10 m10 => Ext m2 m10 → ((Lay_X21 m10 r10) ∧ (g_X21_waits r10 x1 (fun r14 m14 => Ext m10 m14 → (g_X1_well x0 r14 (fun r17 m17 => Ext m14 m17 → (g_X1_waits_b28 x0 x1 Q r17 m17)) m14)) m10))) m2)))) h
theorem w_X1_waits_0 {G : GT} {X : ET} {h0 : Hp} {x0 x1 : Int} (HE : XE G X cX1_waits 2 RX1 10 218 h0) (hr : XR X (some .int)) (f0 : Lay_X1 h0 x0) {Q : Int → Hp → Prop} {h : Hp} (hw : g_X1_waits x0 x1 Q h) : Wx G X h0 (QI Q) h 0 [some (rV x0), some (iV x1)] [] := by
  refine Wx.start (fun EB => ?_)
  unfold g_X1_waits at hw
  refine x_aload_n HE 0 dX1_waits_0 rfl rfl ?_
  refine x_iload_n HE 1 dX1_waits_1 rfl rfl ?_
  refine x_callV HE dX1_waits_2 rfl (fun l => k_X1_isPerson (f0.ext EB) l hw) (As := [iV x1]) (rest := []) rfl xc11 (Lay_X1.tag (f0.ext EB)) (lw_V q1269 q1271 qs27 q123 q1272) hy_X1_isPerson rfl rfl (Nat.le_of_ble_eq_true rfl) (Nat.le_of_ble_eq_true rfl) (Nat.le_of_ble_eq_true rfl) (kkI (fun r2 m2 E2 hw => ?_))
  have hw := hw E2
  refine x_if_eq HE 23 dX1_waits_5 (by decide) (fun c5 => ?_) (fun c5 => ?_)
  · have hw := hw.1 c5
    refine x_aload_n HE 0 dX1_waits_23 rfl rfl ?_
    refine x_iconst HE dX1_waits_24 (by decide) ?_
    refine x_callV HE dX1_waits_25 rfl (fun l => k_X1_refused (f0.ext (EB.tr E2)) l hw) (As := [iV 1]) (rest := []) rfl xc11 (Lay_X1.tag (f0.ext (EB.tr E2))) (lw_V q279 q281 qs0 q123 q282) hy_X1_refused rfl rfl (Nat.le_of_ble_eq_true rfl) (Nat.le_of_ble_eq_true rfl) (Nat.le_of_ble_eq_true rfl) (kkI (fun r25 m25 E25 hw => ?_))
    have hw := hw E25
    exact w_X1_waits_28 HE hr f0 hw
  · have hw := hw.2 c5
    refine x_aload_n HE 0 dX1_waits_8 rfl rfl ?_
    refine x_aload_n HE 0 dX1_waits_9 rfl rfl ?_
    refine x_callV HE dX1_waits_10 rfl (fun l => k_X1_toCome (f0.ext (EB.tr E2)) l hw) (As := []) (rest := [rV x0]) rfl xc11 (Lay_X1.tag (f0.ext (EB.tr E2))) (lw_V q1385 q1387 qs32 q123 q1388) hy_X1_toCome rfl rfl (Nat.le_of_ble_eq_true rfl) (Nat.le_of_ble_eq_true rfl) (Nat.le_of_ble_eq_true rfl) (kkR (fun r10 m10 E10 hw => ?_))
    have hw := hw E10
    refine x_iload_n HE 1 dX1_waits_13 rfl rfl ?_
    obtain ⟨u14_0, hw⟩ := hw
    refine x_callV HE dX1_waits_14 rfl (fun l => k_X21_waits u14_0 l hw) (As := [iV x1]) (rest := [rV x0]) rfl xc13 (Lay_X21.tag u14_0) (lw_V q1425 q1426 q1427 q157 q1428) hy_X21_waits rfl rfl (Nat.le_of_ble_eq_true rfl) (Nat.le_of_ble_eq_true rfl) (Nat.le_of_ble_eq_true rfl) (kkI (fun r14 m14 E14 hw => ?_))
    have hw := hw E14
    refine x_callV HE dX1_waits_17 rfl (fun l => k_X1_well (f0.ext (EB.tr (E2.tr (E10.tr E14)))) l hw) (As := [iV r14]) (rest := []) rfl xc11 (Lay_X1.tag (f0.ext (EB.tr (E2.tr (E10.tr E14))))) (lw_V q1253 q1255 qs26 q123 q1256) hy_X1_well rfl rfl (Nat.le_of_ble_eq_true rfl) (Nat.le_of_ble_eq_true rfl) (Nat.le_of_ble_eq_true rfl) (kkI (fun r17 m17 E17 hw => ?_))
    have hw := hw E17
    refine x_goto HE 28 dX1_waits_20 (by decide) ?_
    exact w_X1_waits_28 HE hr f0 hw
theorem k_X1_waits {G : GT} {x0 x1 : Int} {Q : Int → Hp → Prop} {h : Hp} (f0 : Lay_X1 h x0) (l : Launch) (hw : g_X1_waits x0 x1 Q h) : XM G l yX1_waits cX1_waits 2 (some .int) 10 218 [rV x0, iV x1] (QI Q) h :=
  XM.of (by decide) (Nat.le_of_ble_eq_true rfl) (fun X HE hr hn => w_X1_waits_0 HE hr f0 hw)
def g_X1_whom_b29 (x0 x1 : Int) (Q : Int → Hp → Prop) (s0 : Int) (h : Hp) : Prop :=
  Q s0 h
theorem w_X1_whom_29 {G : GT} {X : ET} {h0 : Hp} {x0 x1 : Int} (HE : XE G X cX1_whom 2 RX1 10 218 h0) (hr : XR X (some .int)) (f0 : Lay_X1 h0 x0) {Q : Int → Hp → Prop} {s0 : Int} {h : Hp} (hw : g_X1_whom_b29 x0 x1 Q s0 h) : Wx G X h0 (QI Q) h 29 [some (rV x0), some (iV x1)] [iV s0] := by
  refine Wx.start (fun EB => ?_)
  unfold g_X1_whom_b29 at hw
  exact x_iret HE hr dX1_whom_29 hw
def g_X1_whom (x0 x1 : Int) (Q : Int → Hp → Prop) (h : Hp) : Prop :=
  g_X1_isPerson x0 x1 (fun r2 m2 => Ext h m2 → (((r2 = 0) → (g_X1_refused x0 1 (fun r26 m26 => Ext m2 m26 → (g_X1_whom_b29 x0 x1 Q r26 m26)) m2)) ∧ ((r2 ≠ 0) → (g_X1_toCome x0 (fun r10 m10 => Ext m2 m10 → ((Lay_X21 m10 r10) ∧ (((0 : Int) ≤ x1 ∧ x1 < 10) ∧ (g_X1_well x0 (hA m10 (r10 + 7) x1) (fun r18 m18 => Ext m10 m18 → (g_X1_whom_b29 x0 x1 Q r18 m18)) m10)))) m2)))) h
theorem w_X1_whom_0 {G : GT} {X : ET} {h0 : Hp} {x0 x1 : Int} (HE : XE G X cX1_whom 2 RX1 10 218 h0) (hr : XR X (some .int)) (f0 : Lay_X1 h0 x0) {Q : Int → Hp → Prop} {h : Hp} (hw : g_X1_whom x0 x1 Q h) : Wx G X h0 (QI Q) h 0 [some (rV x0), some (iV x1)] [] := by
  refine Wx.start (fun EB => ?_)
  unfold g_X1_whom at hw
  refine x_aload_n HE 0 dX1_whom_0 rfl rfl ?_
  refine x_iload_n HE 1 dX1_whom_1 rfl rfl ?_
  refine x_callV HE dX1_whom_2 rfl (fun l => k_X1_isPerson (f0.ext EB) l hw) (As := [iV x1]) (rest := []) rfl xc11 (Lay_X1.tag (f0.ext EB)) (lw_V q1269 q1271 qs27 q123 q1272) hy_X1_isPerson rfl rfl (Nat.le_of_ble_eq_true rfl) (Nat.le_of_ble_eq_true rfl) (Nat.le_of_ble_eq_true rfl) (kkI (fun r2 m2 E2 hw => ?_))
  have hw := hw E2
  refine x_if_eq HE 24 dX1_whom_5 (by decide) (fun c5 => ?_) (fun c5 => ?_)
  · have hw := hw.1 c5
    refine x_aload_n HE 0 dX1_whom_24 rfl rfl ?_
    refine x_iconst HE dX1_whom_25 (by decide) ?_
    refine x_callV HE dX1_whom_26 rfl (fun l => k_X1_refused (f0.ext (EB.tr E2)) l hw) (As := [iV 1]) (rest := []) rfl xc11 (Lay_X1.tag (f0.ext (EB.tr E2))) (lw_V q279 q281 qs0 q123 q282) hy_X1_refused rfl rfl (Nat.le_of_ble_eq_true rfl) (Nat.le_of_ble_eq_true rfl) (Nat.le_of_ble_eq_true rfl) (kkI (fun r26 m26 E26 hw => ?_))
    have hw := hw E26
    exact w_X1_whom_29 HE hr f0 hw
  · have hw := hw.2 c5
    refine x_aload_n HE 0 dX1_whom_8 rfl rfl ?_
    refine x_aload_n HE 0 dX1_whom_9 rfl rfl ?_
    refine x_callV HE dX1_whom_10 rfl (fun l => k_X1_toCome (f0.ext (EB.tr E2)) l hw) (As := []) (rest := [rV x0]) rfl xc11 (Lay_X1.tag (f0.ext (EB.tr E2))) (lw_V q1385 q1387 qs32 q123 q1388) hy_X1_toCome rfl rfl (Nat.le_of_ble_eq_true rfl) (Nat.le_of_ble_eq_true rfl) (Nat.le_of_ble_eq_true rfl) (kkR (fun r10 m10 E10 hw => ?_))
    have hw := hw E10
    obtain ⟨v13, hw⟩ := hw
    refine x_gR HE dX1_whom_13 fd_X21_8 q1141 (Or.inl rfl) (Lay_X21.tag v13) (Lay_X21_8 v13).1 ?_
    refine x_iload_n HE 1 dX1_whom_16 rfl rfl ?_
    obtain ⟨i17, hw⟩ := hw
    refine x_iald HE dX1_whom_17 (t := 1) (by decide) ((Lay_X21_8 v13).2.1) (ix_of ((Lay_X21_8 v13).2.2) i17) rfl ?_
    refine x_callV HE dX1_whom_18 rfl (fun l => k_X1_well (f0.ext (EB.tr (E2.tr E10))) l hw) (As := [iV (hA m10 (r10 + 7) x1)]) (rest := []) rfl xc11 (Lay_X1.tag (f0.ext (EB.tr (E2.tr E10)))) (lw_V q1253 q1255 qs26 q123 q1256) hy_X1_well rfl rfl (Nat.le_of_ble_eq_true rfl) (Nat.le_of_ble_eq_true rfl) (Nat.le_of_ble_eq_true rfl) (kkI (fun r18 m18 E18 hw => ?_))
    have hw := hw E18
    refine x_goto HE 29 dX1_whom_21 (by decide) ?_
    exact w_X1_whom_29 HE hr f0 hw
theorem k_X1_whom {G : GT} {x0 x1 : Int} {Q : Int → Hp → Prop} {h : Hp} (f0 : Lay_X1 h x0) (l : Launch) (hw : g_X1_whom x0 x1 Q h) : XM G l yX1_whom cX1_whom 2 (some .int) 10 218 [rV x0, iV x1] (QI Q) h :=
  XM.of (by decide) (Nat.le_of_ble_eq_true rfl) (fun X HE hr hn => w_X1_whom_0 HE hr f0 hw)
def g_X1_has_b29 (x0 x1 : Int) (Q : Int → Hp → Prop) (s0 : Int) (h : Hp) : Prop :=
  Q s0 h
theorem w_X1_has_29 {G : GT} {X : ET} {h0 : Hp} {x0 x1 : Int} (HE : XE G X cX1_has 2 RX1 10 218 h0) (hr : XR X (some .int)) (f0 : Lay_X1 h0 x0) {Q : Int → Hp → Prop} {s0 : Int} {h : Hp} (hw : g_X1_has_b29 x0 x1 Q s0 h) : Wx G X h0 (QI Q) h 29 [some (rV x0), some (iV x1)] [iV s0] := by
  refine Wx.start (fun EB => ?_)
  unfold g_X1_has_b29 at hw
  exact x_iret HE hr dX1_has_29 hw
def g_X1_has (x0 x1 : Int) (Q : Int → Hp → Prop) (h : Hp) : Prop :=
  g_X1_isPerson x0 x1 (fun r2 m2 => Ext h m2 → (((r2 = 0) → (g_X1_refused x0 1 (fun r26 m26 => Ext m2 m26 → (g_X1_has_b29 x0 x1 Q r26 m26)) m2)) ∧ ((r2 ≠ 0) → (g_X1_toCome x0 (fun r10 m10 => Ext m2 m10 → ((Lay_X21 m10 r10) ∧ (((0 : Int) ≤ x1 ∧ x1 < 10) ∧ (g_X1_well x0 (hA m10 (r10 + 8) x1) (fun r18 m18 => Ext m10 m18 → (g_X1_has_b29 x0 x1 Q r18 m18)) m10)))) m2)))) h
theorem w_X1_has_0 {G : GT} {X : ET} {h0 : Hp} {x0 x1 : Int} (HE : XE G X cX1_has 2 RX1 10 218 h0) (hr : XR X (some .int)) (f0 : Lay_X1 h0 x0) {Q : Int → Hp → Prop} {h : Hp} (hw : g_X1_has x0 x1 Q h) : Wx G X h0 (QI Q) h 0 [some (rV x0), some (iV x1)] [] := by
  refine Wx.start (fun EB => ?_)
  unfold g_X1_has at hw
  refine x_aload_n HE 0 dX1_has_0 rfl rfl ?_
  refine x_iload_n HE 1 dX1_has_1 rfl rfl ?_
  refine x_callV HE dX1_has_2 rfl (fun l => k_X1_isPerson (f0.ext EB) l hw) (As := [iV x1]) (rest := []) rfl xc11 (Lay_X1.tag (f0.ext EB)) (lw_V q1269 q1271 qs27 q123 q1272) hy_X1_isPerson rfl rfl (Nat.le_of_ble_eq_true rfl) (Nat.le_of_ble_eq_true rfl) (Nat.le_of_ble_eq_true rfl) (kkI (fun r2 m2 E2 hw => ?_))
  have hw := hw E2
  refine x_if_eq HE 24 dX1_has_5 (by decide) (fun c5 => ?_) (fun c5 => ?_)
  · have hw := hw.1 c5
    refine x_aload_n HE 0 dX1_has_24 rfl rfl ?_
    refine x_iconst HE dX1_has_25 (by decide) ?_
    refine x_callV HE dX1_has_26 rfl (fun l => k_X1_refused (f0.ext (EB.tr E2)) l hw) (As := [iV 1]) (rest := []) rfl xc11 (Lay_X1.tag (f0.ext (EB.tr E2))) (lw_V q279 q281 qs0 q123 q282) hy_X1_refused rfl rfl (Nat.le_of_ble_eq_true rfl) (Nat.le_of_ble_eq_true rfl) (Nat.le_of_ble_eq_true rfl) (kkI (fun r26 m26 E26 hw => ?_))
    have hw := hw E26
    exact w_X1_has_29 HE hr f0 hw
  · have hw := hw.2 c5
    refine x_aload_n HE 0 dX1_has_8 rfl rfl ?_
    refine x_aload_n HE 0 dX1_has_9 rfl rfl ?_
    refine x_callV HE dX1_has_10 rfl (fun l => k_X1_toCome (f0.ext (EB.tr E2)) l hw) (As := []) (rest := [rV x0]) rfl xc11 (Lay_X1.tag (f0.ext (EB.tr E2))) (lw_V q1385 q1387 qs32 q123 q1388) hy_X1_toCome rfl rfl (Nat.le_of_ble_eq_true rfl) (Nat.le_of_ble_eq_true rfl) (Nat.le_of_ble_eq_true rfl) (kkR (fun r10 m10 E10 hw => ?_))
    have hw := hw E10
    obtain ⟨v13, hw⟩ := hw
    refine x_gR HE dX1_has_13 fd_X21_9 q1143 (Or.inl rfl) (Lay_X21.tag v13) (Lay_X21_9 v13).1 ?_
    refine x_iload_n HE 1 dX1_has_16 rfl rfl ?_
    obtain ⟨i17, hw⟩ := hw
    refine x_iald HE dX1_has_17 (t := 1) (by decide) ((Lay_X21_9 v13).2.1) (ix_of ((Lay_X21_9 v13).2.2) i17) rfl ?_
    refine x_callV HE dX1_has_18 rfl (fun l => k_X1_well (f0.ext (EB.tr (E2.tr E10))) l hw) (As := [iV (hA m10 (r10 + 8) x1)]) (rest := []) rfl xc11 (Lay_X1.tag (f0.ext (EB.tr (E2.tr E10)))) (lw_V q1253 q1255 qs26 q123 q1256) hy_X1_well rfl rfl (Nat.le_of_ble_eq_true rfl) (Nat.le_of_ble_eq_true rfl) (Nat.le_of_ble_eq_true rfl) (kkI (fun r18 m18 E18 hw => ?_))
    have hw := hw E18
    refine x_goto HE 29 dX1_has_21 (by decide) ?_
    exact w_X1_has_29 HE hr f0 hw
theorem k_X1_has {G : GT} {x0 x1 : Int} {Q : Int → Hp → Prop} {h : Hp} (f0 : Lay_X1 h x0) (l : Launch) (hw : g_X1_has x0 x1 Q h) : XM G l yX1_has cX1_has 2 (some .int) 10 218 [rV x0, iV x1] (QI Q) h :=
  XM.of (by decide) (Nat.le_of_ble_eq_true rfl) (fun X HE hr hn => w_X1_has_0 HE hr f0 hw)
def g_X1_passed_b29 (x0 x1 : Int) (Q : Int → Hp → Prop) (s0 : Int) (h : Hp) : Prop :=
  Q s0 h
theorem w_X1_passed_29 {G : GT} {X : ET} {h0 : Hp} {x0 x1 : Int} (HE : XE G X cX1_passed 2 RX1 10 218 h0) (hr : XR X (some .int)) (f0 : Lay_X1 h0 x0) {Q : Int → Hp → Prop} {s0 : Int} {h : Hp} (hw : g_X1_passed_b29 x0 x1 Q s0 h) : Wx G X h0 (QI Q) h 29 [some (rV x0), some (iV x1)] [iV s0] := by
  refine Wx.start (fun EB => ?_)
  unfold g_X1_passed_b29 at hw
  exact x_iret HE hr dX1_passed_29 hw
def g_X1_passed (x0 x1 : Int) (Q : Int → Hp → Prop) (h : Hp) : Prop :=
  g_X1_isPerson x0 x1 (fun r2 m2 => Ext h m2 → (((r2 = 0) → (g_X1_refused x0 1 (fun r26 m26 => Ext m2 m26 → (g_X1_passed_b29 x0 x1 Q r26 m26)) m2)) ∧ ((r2 ≠ 0) → (g_X1_toCome x0 (fun r10 m10 => Ext m2 m10 → ((Lay_X21 m10 r10) ∧ (((0 : Int) ≤ x1 ∧ x1 < 10) ∧ (g_X1_well x0 (hA m10 (r10 + 10) x1) (fun r18 m18 => Ext m10 m18 → (g_X1_passed_b29 x0 x1 Q r18 m18)) m10)))) m2)))) h
theorem w_X1_passed_0 {G : GT} {X : ET} {h0 : Hp} {x0 x1 : Int} (HE : XE G X cX1_passed 2 RX1 10 218 h0) (hr : XR X (some .int)) (f0 : Lay_X1 h0 x0) {Q : Int → Hp → Prop} {h : Hp} (hw : g_X1_passed x0 x1 Q h) : Wx G X h0 (QI Q) h 0 [some (rV x0), some (iV x1)] [] := by
  refine Wx.start (fun EB => ?_)
  unfold g_X1_passed at hw
  refine x_aload_n HE 0 dX1_passed_0 rfl rfl ?_
  refine x_iload_n HE 1 dX1_passed_1 rfl rfl ?_
  refine x_callV HE dX1_passed_2 rfl (fun l => k_X1_isPerson (f0.ext EB) l hw) (As := [iV x1]) (rest := []) rfl xc11 (Lay_X1.tag (f0.ext EB)) (lw_V q1269 q1271 qs27 q123 q1272) hy_X1_isPerson rfl rfl (Nat.le_of_ble_eq_true rfl) (Nat.le_of_ble_eq_true rfl) (Nat.le_of_ble_eq_true rfl) (kkI (fun r2 m2 E2 hw => ?_))
  have hw := hw E2
  refine x_if_eq HE 24 dX1_passed_5 (by decide) (fun c5 => ?_) (fun c5 => ?_)
  · have hw := hw.1 c5
    refine x_aload_n HE 0 dX1_passed_24 rfl rfl ?_
    refine x_iconst HE dX1_passed_25 (by decide) ?_
    refine x_callV HE dX1_passed_26 rfl (fun l => k_X1_refused (f0.ext (EB.tr E2)) l hw) (As := [iV 1]) (rest := []) rfl xc11 (Lay_X1.tag (f0.ext (EB.tr E2))) (lw_V q279 q281 qs0 q123 q282) hy_X1_refused rfl rfl (Nat.le_of_ble_eq_true rfl) (Nat.le_of_ble_eq_true rfl) (Nat.le_of_ble_eq_true rfl) (kkI (fun r26 m26 E26 hw => ?_))
    have hw := hw E26
    exact w_X1_passed_29 HE hr f0 hw
  · have hw := hw.2 c5
    refine x_aload_n HE 0 dX1_passed_8 rfl rfl ?_
    refine x_aload_n HE 0 dX1_passed_9 rfl rfl ?_
    refine x_callV HE dX1_passed_10 rfl (fun l => k_X1_toCome (f0.ext (EB.tr E2)) l hw) (As := []) (rest := [rV x0]) rfl xc11 (Lay_X1.tag (f0.ext (EB.tr E2))) (lw_V q1385 q1387 qs32 q123 q1388) hy_X1_toCome rfl rfl (Nat.le_of_ble_eq_true rfl) (Nat.le_of_ble_eq_true rfl) (Nat.le_of_ble_eq_true rfl) (kkR (fun r10 m10 E10 hw => ?_))
    have hw := hw E10
    obtain ⟨v13, hw⟩ := hw
    refine x_gR HE dX1_passed_13 fd_X21_11 q1146 (Or.inl rfl) (Lay_X21.tag v13) (Lay_X21_11 v13).1 ?_
    refine x_iload_n HE 1 dX1_passed_16 rfl rfl ?_
    obtain ⟨i17, hw⟩ := hw
    refine x_iald HE dX1_passed_17 (t := 1) (by decide) ((Lay_X21_11 v13).2.1) (ix_of ((Lay_X21_11 v13).2.2) i17) rfl ?_
    refine x_callV HE dX1_passed_18 rfl (fun l => k_X1_well (f0.ext (EB.tr (E2.tr E10))) l hw) (As := [iV (hA m10 (r10 + 10) x1)]) (rest := []) rfl xc11 (Lay_X1.tag (f0.ext (EB.tr (E2.tr E10)))) (lw_V q1253 q1255 qs26 q123 q1256) hy_X1_well rfl rfl (Nat.le_of_ble_eq_true rfl) (Nat.le_of_ble_eq_true rfl) (Nat.le_of_ble_eq_true rfl) (kkI (fun r18 m18 E18 hw => ?_))
    have hw := hw E18
    refine x_goto HE 29 dX1_passed_21 (by decide) ?_
    exact w_X1_passed_29 HE hr f0 hw
theorem k_X1_passed {G : GT} {x0 x1 : Int} {Q : Int → Hp → Prop} {h : Hp} (f0 : Lay_X1 h x0) (l : Launch) (hw : g_X1_passed x0 x1 Q h) : XM G l yX1_passed cX1_passed 2 (some .int) 10 218 [rV x0, iV x1] (QI Q) h :=
  XM.of (by decide) (Nat.le_of_ble_eq_true rfl) (fun X HE hr hn => w_X1_passed_0 HE hr f0 hw)
def g_X1_pushed_b29 (x0 x1 : Int) (Q : Int → Hp → Prop) (s0 : Int) (h : Hp) : Prop :=
  Q s0 h
theorem w_X1_pushed_29 {G : GT} {X : ET} {h0 : Hp} {x0 x1 : Int} (HE : XE G X cX1_pushed 2 RX1 10 218 h0) (hr : XR X (some .int)) (f0 : Lay_X1 h0 x0) {Q : Int → Hp → Prop} {s0 : Int} {h : Hp} (hw : g_X1_pushed_b29 x0 x1 Q s0 h) : Wx G X h0 (QI Q) h 29 [some (rV x0), some (iV x1)] [iV s0] := by
  refine Wx.start (fun EB => ?_)
  unfold g_X1_pushed_b29 at hw
  exact x_iret HE hr dX1_pushed_29 hw
def g_X1_pushed (x0 x1 : Int) (Q : Int → Hp → Prop) (h : Hp) : Prop :=
  g_X1_isPerson x0 x1 (fun r2 m2 => Ext h m2 → (((r2 = 0) → (g_X1_refused x0 1 (fun r26 m26 => Ext m2 m26 → (g_X1_pushed_b29 x0 x1 Q r26 m26)) m2)) ∧ ((r2 ≠ 0) → (g_X1_toCome x0 (fun r10 m10 => Ext m2 m10 → ((Lay_X21 m10 r10) ∧ (((0 : Int) ≤ x1 ∧ x1 < 10) ∧ (g_X1_well x0 (hA m10 (r10 + 11) x1) (fun r18 m18 => Ext m10 m18 → (g_X1_pushed_b29 x0 x1 Q r18 m18)) m10)))) m2)))) h
theorem w_X1_pushed_0 {G : GT} {X : ET} {h0 : Hp} {x0 x1 : Int} (HE : XE G X cX1_pushed 2 RX1 10 218 h0) (hr : XR X (some .int)) (f0 : Lay_X1 h0 x0) {Q : Int → Hp → Prop} {h : Hp} (hw : g_X1_pushed x0 x1 Q h) : Wx G X h0 (QI Q) h 0 [some (rV x0), some (iV x1)] [] := by
  refine Wx.start (fun EB => ?_)
  unfold g_X1_pushed at hw
  refine x_aload_n HE 0 dX1_pushed_0 rfl rfl ?_
  refine x_iload_n HE 1 dX1_pushed_1 rfl rfl ?_
  refine x_callV HE dX1_pushed_2 rfl (fun l => k_X1_isPerson (f0.ext EB) l hw) (As := [iV x1]) (rest := []) rfl xc11 (Lay_X1.tag (f0.ext EB)) (lw_V q1269 q1271 qs27 q123 q1272) hy_X1_isPerson rfl rfl (Nat.le_of_ble_eq_true rfl) (Nat.le_of_ble_eq_true rfl) (Nat.le_of_ble_eq_true rfl) (kkI (fun r2 m2 E2 hw => ?_))
  have hw := hw E2
  refine x_if_eq HE 24 dX1_pushed_5 (by decide) (fun c5 => ?_) (fun c5 => ?_)
  · have hw := hw.1 c5
    refine x_aload_n HE 0 dX1_pushed_24 rfl rfl ?_
    refine x_iconst HE dX1_pushed_25 (by decide) ?_
    refine x_callV HE dX1_pushed_26 rfl (fun l => k_X1_refused (f0.ext (EB.tr E2)) l hw) (As := [iV 1]) (rest := []) rfl xc11 (Lay_X1.tag (f0.ext (EB.tr E2))) (lw_V q279 q281 qs0 q123 q282) hy_X1_refused rfl rfl (Nat.le_of_ble_eq_true rfl) (Nat.le_of_ble_eq_true rfl) (Nat.le_of_ble_eq_true rfl) (kkI (fun r26 m26 E26 hw => ?_))
    have hw := hw E26
    exact w_X1_pushed_29 HE hr f0 hw
  · have hw := hw.2 c5
    refine x_aload_n HE 0 dX1_pushed_8 rfl rfl ?_
    refine x_aload_n HE 0 dX1_pushed_9 rfl rfl ?_
    refine x_callV HE dX1_pushed_10 rfl (fun l => k_X1_toCome (f0.ext (EB.tr E2)) l hw) (As := []) (rest := [rV x0]) rfl xc11 (Lay_X1.tag (f0.ext (EB.tr E2))) (lw_V q1385 q1387 qs32 q123 q1388) hy_X1_toCome rfl rfl (Nat.le_of_ble_eq_true rfl) (Nat.le_of_ble_eq_true rfl) (Nat.le_of_ble_eq_true rfl) (kkR (fun r10 m10 E10 hw => ?_))
    have hw := hw E10
    obtain ⟨v13, hw⟩ := hw
    refine x_gR HE dX1_pushed_13 fd_X21_12 q1148 (Or.inl rfl) (Lay_X21.tag v13) (Lay_X21_12 v13).1 ?_
    refine x_iload_n HE 1 dX1_pushed_16 rfl rfl ?_
    obtain ⟨i17, hw⟩ := hw
    refine x_iald HE dX1_pushed_17 (t := 1) (by decide) ((Lay_X21_12 v13).2.1) (ix_of ((Lay_X21_12 v13).2.2) i17) rfl ?_
    refine x_callV HE dX1_pushed_18 rfl (fun l => k_X1_well (f0.ext (EB.tr (E2.tr E10))) l hw) (As := [iV (hA m10 (r10 + 11) x1)]) (rest := []) rfl xc11 (Lay_X1.tag (f0.ext (EB.tr (E2.tr E10)))) (lw_V q1253 q1255 qs26 q123 q1256) hy_X1_well rfl rfl (Nat.le_of_ble_eq_true rfl) (Nat.le_of_ble_eq_true rfl) (Nat.le_of_ble_eq_true rfl) (kkI (fun r18 m18 E18 hw => ?_))
    have hw := hw E18
    refine x_goto HE 29 dX1_pushed_21 (by decide) ?_
    exact w_X1_pushed_29 HE hr f0 hw
theorem k_X1_pushed {G : GT} {x0 x1 : Int} {Q : Int → Hp → Prop} {h : Hp} (f0 : Lay_X1 h x0) (l : Launch) (hw : g_X1_pushed x0 x1 Q h) : XM G l yX1_pushed cX1_pushed 2 (some .int) 10 218 [rV x0, iV x1] (QI Q) h :=
  XM.of (by decide) (Nat.le_of_ble_eq_true rfl) (fun X HE hr hn => w_X1_pushed_0 HE hr f0 hw)
def g_X1_sum_b36 (x0 x1 : Int) (Q : Int → Hp → Prop) (s0 : Int) (h : Hp) : Prop :=
  Q s0 h
theorem w_X1_sum_36 {G : GT} {X : ET} {h0 : Hp} {x0 x1 : Int} (HE : XE G X cX1_sum 2 RX1 10 218 h0) (hr : XR X (some .int)) (f0 : Lay_X1 h0 x0) {Q : Int → Hp → Prop} {s0 : Int} {h : Hp} (hw : g_X1_sum_b36 x0 x1 Q s0 h) : Wx G X h0 (QI Q) h 36 [some (rV x0), some (iV x1)] [iV s0] := by
  refine Wx.start (fun EB => ?_)
  unfold g_X1_sum_b36 at hw
  exact x_iret HE hr dX1_sum_36 hw
def g_X1_sum_b31 (x0 x1 : Int) (Q : Int → Hp → Prop) (h : Hp) : Prop :=
  g_X1_refused x0 1 (fun r33 m33 => Ext h m33 → (g_X1_sum_b36 x0 x1 Q r33 m33)) h
theorem w_X1_sum_31 {G : GT} {X : ET} {h0 : Hp} {x0 x1 : Int} (HE : XE G X cX1_sum 2 RX1 10 218 h0) (hr : XR X (some .int)) (f0 : Lay_X1 h0 x0) {Q : Int → Hp → Prop} {h : Hp} (hw : g_X1_sum_b31 x0 x1 Q  h) : Wx G X h0 (QI Q) h 31 [some (rV x0), some (iV x1)] [] := by
  refine Wx.start (fun EB => ?_)
  unfold g_X1_sum_b31 at hw
  refine x_aload_n HE 0 dX1_sum_31 rfl rfl ?_
  refine x_iconst HE dX1_sum_32 (by decide) ?_
  refine x_callV HE dX1_sum_33 rfl (fun l => k_X1_refused (f0.ext EB) l hw) (As := [iV 1]) (rest := []) rfl xc11 (Lay_X1.tag (f0.ext EB)) (lw_V q279 q281 qs0 q123 q282) hy_X1_refused rfl rfl (Nat.le_of_ble_eq_true rfl) (Nat.le_of_ble_eq_true rfl) (Nat.le_of_ble_eq_true rfl) (kkI (fun r33 m33 E33 hw => ?_))
  have hw := hw E33
  exact w_X1_sum_36 HE hr f0 hw
def g_X1_sum (x0 x1 : Int) (Q : Int → Hp → Prop) (h : Hp) : Prop :=
  (((hF h x0 5) = 0) → (g_X1_sum_b31 x0 x1 Q h)) ∧ ((0 < (hF h x0 5)) → (g_X1_in x1 0 5 (fun r10 m10 => Ext h m10 → (((r10 = 0) → (g_X1_sum_b31 x0 x1 Q m10)) ∧ ((r10 ≠ 0) → (g_X1_toCome x0 (fun r18 m18 => Ext m10 m18 → ((Lay_X21 m18 r18) ∧ (g_X21_sum r18 x1 (fun r22 m22 => Ext m18 m22 → (g_X1_well x0 r22 (fun r25 m25 => Ext m22 m25 → (g_X1_sum_b36 x0 x1 Q r25 m25)) m22)) m18))) m10)))) h))
theorem w_X1_sum_0 {G : GT} {X : ET} {h0 : Hp} {x0 x1 : Int} (HE : XE G X cX1_sum 2 RX1 10 218 h0) (hr : XR X (some .int)) (f0 : Lay_X1 h0 x0) {Q : Int → Hp → Prop} {h : Hp} (hw : g_X1_sum x0 x1 Q h) : Wx G X h0 (QI Q) h 0 [some (rV x0), some (iV x1)] [] := by
  refine Wx.start (fun EB => ?_)
  unfold g_X1_sum at hw
  refine x_aload_n HE 0 dX1_sum_0 rfl rfl ?_
  refine x_gR HE dX1_sum_1 fd_X1_5 q227 (Or.inl rfl) (Lay_X1.tag (f0.ext EB)) rfl ?_
  refine x_ifnull HE 31 dX1_sum_4 (by decide) (fun c4 => ?_) (fun c4 => ?_)
  · have hw := hw.1 c4
    exact w_X1_sum_31 HE hr f0 hw
  · have hw := hw.2 c4
    refine x_iload_n HE 1 dX1_sum_7 rfl rfl ?_
    refine x_iconst HE dX1_sum_8 (by decide) ?_
    refine x_iconst HE dX1_sum_9 (by decide) ?_
    refine x_callS HE dX1_sum_10 rfl (fun l => k_X1_in  l hw) (As := [iV x1, iV 0, iV 5]) (rest := []) rfl (lw_S q276 q277 q123 q278) hy_X1_in.2 rfl rfl (Nat.le_of_ble_eq_true rfl) (Nat.le_of_ble_eq_true rfl) (Nat.le_of_ble_eq_true rfl) (kkI (fun r10 m10 E10 hw => ?_))
    have hw := hw E10
    refine x_if_eq HE 31 dX1_sum_13 (by decide) (fun c13 => ?_) (fun c13 => ?_)
    · have hw := hw.1 c13
      exact w_X1_sum_31 HE hr f0 hw
    · have hw := hw.2 c13
      refine x_aload_n HE 0 dX1_sum_16 rfl rfl ?_
      refine x_aload_n HE 0 dX1_sum_17 rfl rfl ?_
      refine x_callV HE dX1_sum_18 rfl (fun l => k_X1_toCome (f0.ext (EB.tr E10)) l hw) (As := []) (rest := [rV x0]) rfl xc11 (Lay_X1.tag (f0.ext (EB.tr E10))) (lw_V q1385 q1387 qs32 q123 q1388) hy_X1_toCome rfl rfl (Nat.le_of_ble_eq_true rfl) (Nat.le_of_ble_eq_true rfl) (Nat.le_of_ble_eq_true rfl) (kkR (fun r18 m18 E18 hw => ?_))
      have hw := hw E18
      refine x_iload_n HE 1 dX1_sum_21 rfl rfl ?_
      obtain ⟨u22_0, hw⟩ := hw
      refine x_callV HE dX1_sum_22 rfl (fun l => k_X21_sum u22_0 l hw) (As := [iV x1]) (rest := [rV x0]) rfl xc13 (Lay_X21.tag u22_0) (lw_V q1449 q1450 q1451 q157 q1452) hy_X21_sum rfl rfl (Nat.le_of_ble_eq_true rfl) (Nat.le_of_ble_eq_true rfl) (Nat.le_of_ble_eq_true rfl) (kkI (fun r22 m22 E22 hw => ?_))
      have hw := hw E22
      refine x_callV HE dX1_sum_25 rfl (fun l => k_X1_well (f0.ext (EB.tr (E10.tr (E18.tr E22)))) l hw) (As := [iV r22]) (rest := []) rfl xc11 (Lay_X1.tag (f0.ext (EB.tr (E10.tr (E18.tr E22))))) (lw_V q1253 q1255 qs26 q123 q1256) hy_X1_well rfl rfl (Nat.le_of_ble_eq_true rfl) (Nat.le_of_ble_eq_true rfl) (Nat.le_of_ble_eq_true rfl) (kkI (fun r25 m25 E25 hw => ?_))
      have hw := hw E25
      refine x_goto HE 36 dX1_sum_28 (by decide) ?_
      exact w_X1_sum_36 HE hr f0 hw
theorem k_X1_sum {G : GT} {x0 x1 : Int} {Q : Int → Hp → Prop} {h : Hp} (f0 : Lay_X1 h x0) (l : Launch) (hw : g_X1_sum x0 x1 Q h) : XM G l yX1_sum cX1_sum 2 (some .int) 10 218 [rV x0, iV x1] (QI Q) h :=
  XM.of (by decide) (Nat.le_of_ble_eq_true rfl) (fun X HE hr hn => w_X1_sum_0 HE hr f0 hw)
def g_X1_served_b43 (x0 x1 : Int) (Q : Int → Hp → Prop) (s0 : Int) (h : Hp) : Prop :=
  Q s0 h
theorem w_X1_served_43 {G : GT} {X : ET} {h0 : Hp} {x0 x1 : Int} (HE : XE G X cX1_served 2 RX1 10 218 h0) (hr : XR X (some .int)) (f0 : Lay_X1 h0 x0) {Q : Int → Hp → Prop} {s0 : Int} {h : Hp} (hw : g_X1_served_b43 x0 x1 Q s0 h) : Wx G X h0 (QI Q) h 43 [some (rV x0), some (iV x1)] [iV s0] := by
  refine Wx.start (fun EB => ?_)
  unfold g_X1_served_b43 at hw
  exact x_iret HE hr dX1_served_43 hw
def g_X1_served_b38 (x0 x1 : Int) (Q : Int → Hp → Prop) (h : Hp) : Prop :=
  g_X1_refused x0 1 (fun r40 m40 => Ext h m40 → (g_X1_served_b43 x0 x1 Q r40 m40)) h
theorem w_X1_served_38 {G : GT} {X : ET} {h0 : Hp} {x0 x1 : Int} (HE : XE G X cX1_served 2 RX1 10 218 h0) (hr : XR X (some .int)) (f0 : Lay_X1 h0 x0) {Q : Int → Hp → Prop} {h : Hp} (hw : g_X1_served_b38 x0 x1 Q  h) : Wx G X h0 (QI Q) h 38 [some (rV x0), some (iV x1)] [] := by
  refine Wx.start (fun EB => ?_)
  unfold g_X1_served_b38 at hw
  refine x_aload_n HE 0 dX1_served_38 rfl rfl ?_
  refine x_iconst HE dX1_served_39 (by decide) ?_
  refine x_callV HE dX1_served_40 rfl (fun l => k_X1_refused (f0.ext EB) l hw) (As := [iV 1]) (rest := []) rfl xc11 (Lay_X1.tag (f0.ext EB)) (lw_V q279 q281 qs0 q123 q282) hy_X1_refused rfl rfl (Nat.le_of_ble_eq_true rfl) (Nat.le_of_ble_eq_true rfl) (Nat.le_of_ble_eq_true rfl) (kkI (fun r40 m40 E40 hw => ?_))
  have hw := hw E40
  exact w_X1_served_43 HE hr f0 hw
def g_X1_served (x0 x1 : Int) (Q : Int → Hp → Prop) (h : Hp) : Prop :=
  (((hF h x0 5) = 0) → (g_X1_served_b38 x0 x1 Q h)) ∧ ((0 < (hF h x0 5)) → (((x1 < 0) → (g_X1_served_b38 x0 x1 Q h)) ∧ ((0 ≤ x1) → (g_X1_toCome x0 (fun r13 m13 => Ext h m13 → ((Lay_X21 m13 r13) ∧ ((((hF m13 r13 25) ≤ x1) → (g_X1_served_b38 x0 x1 Q m13)) ∧ ((x1 < (hF m13 r13 25)) → ((Lay_X21 m13 (hF m13 x0 8)) ∧ (((0 : Int) ≤ x1 ∧ x1 < 10) ∧ (g_X1_well x0 (hA m13 ((hF m13 x0 8) + 12) x1) (fun r32 m32 => Ext m13 m32 → (g_X1_served_b43 x0 x1 Q r32 m32)) m13))))))) h))))
theorem w_X1_served_0 {G : GT} {X : ET} {h0 : Hp} {x0 x1 : Int} (HE : XE G X cX1_served 2 RX1 10 218 h0) (hr : XR X (some .int)) (f0 : Lay_X1 h0 x0) {Q : Int → Hp → Prop} {h : Hp} (hw : g_X1_served x0 x1 Q h) : Wx G X h0 (QI Q) h 0 [some (rV x0), some (iV x1)] [] := by
  refine Wx.start (fun EB => ?_)
  unfold g_X1_served at hw
  refine x_aload_n HE 0 dX1_served_0 rfl rfl ?_
  refine x_gR HE dX1_served_1 fd_X1_5 q227 (Or.inl rfl) (Lay_X1.tag (f0.ext EB)) rfl ?_
  refine x_ifnull HE 38 dX1_served_4 (by decide) (fun c4 => ?_) (fun c4 => ?_)
  · have hw := hw.1 c4
    exact w_X1_served_38 HE hr f0 hw
  · have hw := hw.2 c4
    refine x_iload_n HE 1 dX1_served_7 rfl rfl ?_
    refine x_if_lt HE 38 dX1_served_8 (by decide) (fun c8 => ?_) (fun c8 => ?_)
    · have hw := hw.1 c8
      exact w_X1_served_38 HE hr f0 hw
    · have hw := hw.2 c8
      refine x_iload_n HE 1 dX1_served_11 rfl rfl ?_
      refine x_aload_n HE 0 dX1_served_12 rfl rfl ?_
      refine x_callV HE dX1_served_13 rfl (fun l => k_X1_toCome (f0.ext EB) l hw) (As := []) (rest := [iV x1]) rfl xc11 (Lay_X1.tag (f0.ext EB)) (lw_V q1385 q1387 qs32 q123 q1388) hy_X1_toCome rfl rfl (Nat.le_of_ble_eq_true rfl) (Nat.le_of_ble_eq_true rfl) (Nat.le_of_ble_eq_true rfl) (kkR (fun r13 m13 E13 hw => ?_))
      have hw := hw E13
      obtain ⟨v16, hw⟩ := hw
      refine x_gI HE dX1_served_16 fd_X21_25 q1174 (Or.inl rfl) (Lay_X21.tag v16) rfl ?_
      refine x_ic_ge HE 38 dX1_served_19 (by decide) (fun c19 => ?_) (fun c19 => ?_)
      · have hw := hw.1 c19
        exact w_X1_served_38 HE hr f0 hw
      · have hw := hw.2 c19
        refine x_aload_n HE 0 dX1_served_22 rfl rfl ?_
        refine x_aload_n HE 0 dX1_served_23 rfl rfl ?_
        refine x_gR HE dX1_served_24 fd_X1_8 q230 (Or.inl rfl) (Lay_X1.tag (f0.ext (EB.tr E13))) rfl ?_
        obtain ⟨v27, hw⟩ := hw
        refine x_gR HE dX1_served_27 fd_X21_13 q1150 (Or.inl rfl) (Lay_X21.tag v27) (Lay_X21_13 v27).1 ?_
        refine x_iload_n HE 1 dX1_served_30 rfl rfl ?_
        obtain ⟨i31, hw⟩ := hw
        refine x_iald HE dX1_served_31 (t := 1) (by decide) ((Lay_X21_13 v27).2.1) (ix_of ((Lay_X21_13 v27).2.2) i31) rfl ?_
        refine x_callV HE dX1_served_32 rfl (fun l => k_X1_well (f0.ext (EB.tr E13)) l hw) (As := [iV (hA m13 ((hF m13 x0 8) + 12) x1)]) (rest := []) rfl xc11 (Lay_X1.tag (f0.ext (EB.tr E13))) (lw_V q1253 q1255 qs26 q123 q1256) hy_X1_well rfl rfl (Nat.le_of_ble_eq_true rfl) (Nat.le_of_ble_eq_true rfl) (Nat.le_of_ble_eq_true rfl) (kkI (fun r32 m32 E32 hw => ?_))
        have hw := hw E32
        refine x_goto HE 43 dX1_served_35 (by decide) ?_
        exact w_X1_served_43 HE hr f0 hw
theorem k_X1_served {G : GT} {x0 x1 : Int} {Q : Int → Hp → Prop} {h : Hp} (f0 : Lay_X1 h x0) (l : Launch) (hw : g_X1_served x0 x1 Q h) : XM G l yX1_served cX1_served 2 (some .int) 10 218 [rV x0, iV x1] (QI Q) h :=
  XM.of (by decide) (Nat.le_of_ble_eq_true rfl) (fun X HE hr hn => w_X1_served_0 HE hr f0 hw)
def g_X1_tries (x0 : Int) (Q : Int → Hp → Prop) (h : Hp) : Prop :=
  (Lay_X21 h (hF h x0 9)) ∧ (g_X21_takes (hF h x0 9) (hF h x0 6) (fun m8 => Ext h m8 → (Q (hF m8 x0 9) m8)) h)
theorem w_X1_tries_0 {G : GT} {X : ET} {h0 : Hp} {x0 : Int} (HE : XE G X cX1_tries 1 RX1 2 81 h0) (hr : XR X (some (.object "NextAtBar$Ba\x72"))) (f0 : Lay_X1 h0 x0) {Q : Int → Hp → Prop} {h : Hp} (hw : g_X1_tries x0 Q h) : Wx G X h0 (QR Q) h 0 [some (rV x0)] [] := by
  refine Wx.start (fun EB => ?_)
  unfold g_X1_tries at hw
  refine x_aload_n HE 0 dX1_tries_0 rfl rfl ?_
  refine x_gR HE dX1_tries_1 fd_X1_9 q231 (Or.inl rfl) (Lay_X1.tag (f0.ext EB)) rfl ?_
  refine x_aload_n HE 0 dX1_tries_4 rfl rfl ?_
  refine x_gR HE dX1_tries_5 fd_X1_6 q228 (Or.inl rfl) (Lay_X1.tag (f0.ext EB)) rfl ?_
  obtain ⟨u8_0, hw⟩ := hw
  refine x_callV HE dX1_tries_8 rfl (fun l => k_X21_takes u8_0 l hw) (As := [rV (hF h x0 6)]) (rest := []) rfl xc13 (Lay_X21.tag u8_0) (lw_V q1389 q1240 q1241 q157 q1242) hy_X21_takes rfl rfl (Nat.le_of_ble_eq_true rfl) (Nat.le_of_ble_eq_true rfl) (Nat.le_of_ble_eq_true rfl) (kkV (fun m8 E8 hw => ?_))
  have hw := hw E8
  refine x_aload_n HE 0 dX1_tries_11 rfl rfl ?_
  refine x_gR HE dX1_tries_12 fd_X1_9 q231 (Or.inl rfl) (Lay_X1.tag (f0.ext (EB.tr E8))) rfl ?_
  exact x_aret HE hr (Or.inl ⟨_, rfl⟩) dX1_tries_15 hw
theorem k_X1_tries {G : GT} {x0 : Int} {Q : Int → Hp → Prop} {h : Hp} (f0 : Lay_X1 h x0) (l : Launch) (hw : g_X1_tries x0 Q h) : XM G l yX1_tries cX1_tries 1 (some (.object "NextAtBar$Ba\x72")) 2 81 [rV x0] (QR Q) h :=
  XM.of (by decide) (Nat.le_of_ble_eq_true rfl) (fun X HE hr hn => w_X1_tries_0 HE hr f0 hw)
def g_X1_byRule_b65 (x0 x1 x2 : Int) (Q : Int → Hp → Prop) (l3 : Int) (h : Hp) : Prop :=
  (Lay_X21 h l3) ∧ (g_X21_evening l3 (fun r66 m66 => Ext h m66 → (Q r66 m66)) h)
theorem w_X1_byRule_65 {G : GT} {X : ET} {h0 : Hp} {x0 x1 x2 : Int} (HE : XE G X cX1_byRule 5 RX1 9 198 h0) (hr : XR X (some (.object "NextAtBar$Ba\x72"))) (f0 : Lay_X1 h0 x0) {Q : Int → Hp → Prop} {l3 : Int} {h : Hp} (hw : g_X1_byRule_b65 x0 x1 x2 Q l3 h) : Wx G X h0 (QR Q) h 65 [some (rV x0), some (iV x1), some (iV x2), some (rV l3), none] [] := by
  refine Wx.start (fun EB => ?_)
  unfold g_X1_byRule_b65 at hw
  refine x_aload_n HE 3 dX1_byRule_65 rfl rfl ?_
  obtain ⟨u66_0, hw⟩ := hw
  refine x_callV HE dX1_byRule_66 rfl (fun l => k_X21_evening u66_0 l hw) (As := []) (rest := []) rfl xc13 (Lay_X21.tag u66_0) (lw_V q1390 q1391 q1392 q157 q1393) hy_X21_evening rfl rfl (Nat.le_of_ble_eq_true rfl) (Nat.le_of_ble_eq_true rfl) (Nat.le_of_ble_eq_true rfl) (kkR (fun r66 m66 E66 hw => ?_))
  have hw := hw E66
  exact x_aret HE hr (Or.inl ⟨_, rfl⟩) dX1_byRule_69 hw
def g_X1_byRule_b59 (x0 x1 x2 : Int) (Q : Int → Hp → Prop) (K8 : Int → Int → Hp → Prop) (l3 l4 : Int) (h : Hp) : Prop :=
  (i32 (l4 + 1)) ∧ (∀ y59 : Int, y59 = l4 + 1 → (K8 l3 y59 h))
theorem w_X1_byRule_59 {G : GT} {X : ET} {h0 : Hp} {x0 x1 x2 : Int} (HE : XE G X cX1_byRule 5 RX1 9 198 h0) (hr : XR X (some (.object "NextAtBar$Ba\x72"))) (f0 : Lay_X1 h0 x0) {Q : Int → Hp → Prop} {K8 : Int → Int → Hp → Prop} (hK8 : ∀ (l3 l4 : Int) (h : Hp), K8 l3 l4 h → Wx G X h0 (QR Q) h 8 [some (rV x0), some (iV x1), some (iV x2), some (rV l3), some (iV l4)] []) {l3 l4 : Int} {h : Hp} (hw : g_X1_byRule_b59 x0 x1 x2 Q K8 l3 l4 h) : Wx G X h0 (QR Q) h 59 [some (rV x0), some (iV x1), some (iV x2), some (rV l3), some (iV l4)] [] := by
  refine Wx.start (fun EB => ?_)
  unfold g_X1_byRule_b59 at hw
  obtain ⟨v59, hw⟩ := hw
  refine x_iincN HE (fun y59 => [some (rV x0), some (iV x1), some (iV x2), some (rV l3), some (iV y59)]) dX1_byRule_59 rfl v59 (Nat.le_of_ble_eq_true rfl) (fun _ => rfl) (fun y59 ey59 => ?_)
  have hw := hw y59 ey59
  refine x_goto HE 8 dX1_byRule_62 (by decide) ?_
  exact hK8 _ _ _ hw
def g_X1_byRule_L8 (x0 x1 x2 : Int) (Q : Int → Hp → Prop) (K8 : Int → Int → Hp → Prop) (l3 l4 : Int) (h : Hp) : Prop :=
  (Lay_X21 h l3) ∧ ((((hF h l3 23) ≤ l4) → (g_X1_byRule_b65 x0 x1 x2 Q l3 h)) ∧ ((l4 < (hF h l3 23)) → (g_X1_ruleOf x1 (fun r24 m24 => Ext h m24 → (((0 : Int) ≤ l4 ∧ l4 < 4) ∧ (((6, hT m24 r24) ∈ xTak) ∧ (∀ m27 : Hp, m27 = setA m24 (l3 + 14) l4 r24 → (((x2 ≠ 0) → (((0 : Int) ≤ l4 ∧ l4 < 4) ∧ (∀ m42 : Hp, m42 = setA m27 (l3 + 16) l4 0 → ((Lay_X7 m42 (hF m42 x0 5)) ∧ ((i32 ((hF m42 (hF m42 x0 5) 0) - 1)) ∧ (((0 : Int) ≤ l4 ∧ l4 < 4) ∧ (∀ m58 : Hp, m58 = setA m42 (l3 + 17) l4 ((hF m42 (hF m42 x0 5) 0) - 1) → (g_X1_byRule_b59 x0 x1 x2 Q K8 l3 l4 m58)))))))) ∧ ((x2 = 0) → (g_X1_byRule_b59 x0 x1 x2 Q K8 l3 l4 m27))))))) h)))
theorem w_X1_byRule_8 {G : GT} {X : ET} {h0 : Hp} {x0 x1 x2 : Int} (HE : XE G X cX1_byRule 5 RX1 9 198 h0) (hr : XR X (some (.object "NextAtBar$Ba\x72"))) (f0 : Lay_X1 h0 x0) {Q : Int → Hp → Prop} {K8 : Int → Int → Hp → Prop} (hK8 : ∀ (l3 l4 : Int) (h : Hp), K8 l3 l4 h → Wx G X h0 (QR Q) h 8 [some (rV x0), some (iV x1), some (iV x2), some (rV l3), some (iV l4)] []) {l3 l4 : Int} {h : Hp} (hw : g_X1_byRule_L8 x0 x1 x2 Q K8 l3 l4 h) : Wx G X h0 (QR Q) h 8 [some (rV x0), some (iV x1), some (iV x2), some (rV l3), some (iV l4)] [] := by
  refine Wx.start (fun EB => ?_)
  unfold g_X1_byRule_L8 at hw
  refine x_iload HE dX1_byRule_8 rfl ?_
  refine x_aload_n HE 3 dX1_byRule_10 rfl rfl ?_
  obtain ⟨v11, hw⟩ := hw
  refine x_gI HE dX1_byRule_11 fd_X21_23 q1170 (Or.inl rfl) (Lay_X21.tag v11) rfl ?_
  refine x_ic_ge HE 65 dX1_byRule_14 (by decide) (fun c14 => ?_) (fun c14 => ?_)
  · have hw := hw.1 c14
    refine Wx.mask [true, true, true, true, false] (lo2 := [some (rV x0), some (iV x1), some (iV x2), some (rV l3), none]) rfl ?_
    exact w_X1_byRule_65 HE hr f0 hw
  · have hw := hw.2 c14
    refine x_aload_n HE 3 dX1_byRule_17 rfl rfl ?_
    refine x_gR HE dX1_byRule_18 fd_X21_15 q1154 (Or.inl rfl) (Lay_X21.tag v11) (Lay_X21_15 v11).1 ?_
    refine x_iload HE dX1_byRule_21 rfl ?_
    refine x_iload_n HE 1 dX1_byRule_23 rfl rfl ?_
    refine x_callS HE dX1_byRule_24 rfl (fun l => k_X1_ruleOf  l hw) (As := [iV x1]) (rest := [iV l4, rV (l3 + 14)]) rfl (lw_S q1479 q858 q123 q859) hy_X1_ruleOf.2 rfl rfl (Nat.le_of_ble_eq_true rfl) (Nat.le_of_ble_eq_true rfl) (Nat.le_of_ble_eq_true rfl) (kkR (fun r24 m24 E24 hw => ?_))
    have hw := hw E24
    obtain ⟨i27, hw⟩ := hw
    obtain ⟨b27, hw⟩ := hw
    refine x_aast HE dX1_byRule_27 b27 ((Lay_X21_15 (v11.ext E24)).2.1) rfl (ix_of ((Lay_X21_15 (v11.ext E24)).2.2) i27) (fun m27 em27 E27 => ?_)
    have hw := hw m27 em27
    refine x_iload_n HE 2 dX1_byRule_28 rfl rfl ?_
    refine x_if_ne HE 35 dX1_byRule_29 (by decide) (fun c29 => ?_) (fun c29 => ?_)
    · have hw := hw.1 c29
      refine x_aload_n HE 3 dX1_byRule_35 rfl rfl ?_
      refine x_gR HE dX1_byRule_36 fd_X21_17 q1160 (Or.inl rfl) (Lay_X21.tag (v11.ext (E24.tr E27))) (Lay_X21_17 (v11.ext (E24.tr E27))).1 ?_
      refine x_iload HE dX1_byRule_39 rfl ?_
      refine x_iconst HE dX1_byRule_41 (by decide) ?_
      obtain ⟨i42, hw⟩ := hw
      refine x_iast HE dX1_byRule_42 ((Lay_X21_17 (v11.ext (E24.tr E27))).2.1) (ix_of ((Lay_X21_17 (v11.ext (E24.tr E27))).2.2) i42) (fun m42 em42 E42 => ?_)
      have hw := hw m42 em42
      refine x_aload_n HE 3 dX1_byRule_43 rfl rfl ?_
      refine x_gR HE dX1_byRule_44 fd_X21_18 q1162 (Or.inl rfl) (Lay_X21.tag (v11.ext (E24.tr (E27.tr E42)))) (Lay_X21_18 (v11.ext (E24.tr (E27.tr E42)))).1 ?_
      refine x_iload HE dX1_byRule_47 rfl ?_
      refine x_aload_n HE 0 dX1_byRule_49 rfl rfl ?_
      refine x_gR HE dX1_byRule_50 fd_X1_5 q227 (Or.inl rfl) (Lay_X1.tag (f0.ext (EB.tr (E24.tr (E27.tr E42))))) rfl ?_
      obtain ⟨v53, hw⟩ := hw
      refine x_gI HE dX1_byRule_53 fd_X7_0 q314 (Or.inl rfl) (Lay_X7.tag v53) rfl ?_
      refine x_iconst HE dX1_byRule_56 (by decide) ?_
      obtain ⟨v57, hw⟩ := hw
      refine x_isub HE dX1_byRule_57 v57 ?_
      obtain ⟨i58, hw⟩ := hw
      refine x_iast HE dX1_byRule_58 ((Lay_X21_18 (v11.ext (E24.tr (E27.tr E42)))).2.1) (ix_of ((Lay_X21_18 (v11.ext (E24.tr (E27.tr E42)))).2.2) i58) (fun m58 em58 E58 => ?_)
      have hw := hw m58 em58
      exact w_X1_byRule_59 HE hr f0 hK8 hw
    · have hw := hw.2 c29
      refine x_goto HE 59 dX1_byRule_32 (by decide) ?_
      exact w_X1_byRule_59 HE hr f0 hK8 hw
theorem wl_X1_byRule_8 {G : GT} {X : ET} {h0 : Hp} {x0 x1 x2 : Int} (HE : XE G X cX1_byRule 5 RX1 9 198 h0) (hr : XR X (some (.object "NextAtBar$Ba\x72"))) (f0 : Lay_X1 h0 x0) {Q : Int → Hp → Prop} {l3 l4 : Int} {h : Hp} (hw : Lp2 (g_X1_byRule_L8 x0 x1 x2 Q) l3 l4 h) : Wx G X h0 (QR Q) h 8 [some (rV x0), some (iV x1), some (iV x2), some (rV l3), some (iV l4)] [] := by
  obtain ⟨n, hw⟩ := hw
  induction n generalizing l3 l4 h with
  | zero => exact hw.elim
  | succ n ih => exact w_X1_byRule_8 HE hr f0 (fun _ _ _ hk => ih hk) hw
def g_X1_byRule (x0 x1 x2 : Int) (Q : Int → Hp → Prop) (h : Hp) : Prop :=
  g_X1_tries x0 (fun r1 m1 => Ext h m1 → (Lp2 (g_X1_byRule_L8 x0 x1 x2 Q) r1 0 m1)) h
theorem w_X1_byRule_0 {G : GT} {X : ET} {h0 : Hp} {x0 x1 x2 : Int} (HE : XE G X cX1_byRule 5 RX1 9 198 h0) (hr : XR X (some (.object "NextAtBar$Ba\x72"))) (f0 : Lay_X1 h0 x0) {Q : Int → Hp → Prop} {h : Hp} (hw : g_X1_byRule x0 x1 x2 Q h) : Wx G X h0 (QR Q) h 0 [some (rV x0), some (iV x1), some (iV x2), none, none] [] := by
  refine Wx.start (fun EB => ?_)
  unfold g_X1_byRule at hw
  refine x_aload_n HE 0 dX1_byRule_0 rfl rfl ?_
  refine x_callV HE dX1_byRule_1 rfl (fun l => k_X1_tries (f0.ext EB) l hw) (As := []) (rest := []) rfl xc11 (Lay_X1.tag (f0.ext EB)) (lw_V q1475 q1477 qs38 q123 q1478) hy_X1_tries rfl rfl (Nat.le_of_ble_eq_true rfl) (Nat.le_of_ble_eq_true rfl) (Nat.le_of_ble_eq_true rfl) (kkR (fun r1 m1 E1 hw => ?_))
  have hw := hw E1
  refine x_astore_n HE 3 (lo' := [some (rV x0), some (iV x1), some (iV x2), some (rV r1), none]) dX1_byRule_4 rfl (Nat.le_of_ble_eq_true rfl) rfl ?_
  refine x_iconst HE dX1_byRule_5 (by decide) ?_
  refine x_istore HE (lo' := [some (rV x0), some (iV x1), some (iV x2), some (rV r1), some (iV 0)]) dX1_byRule_6 (Nat.le_of_ble_eq_true rfl) rfl ?_
  exact wl_X1_byRule_8 HE hr f0 hw
theorem k_X1_byRule {G : GT} {x0 x1 x2 : Int} {Q : Int → Hp → Prop} {h : Hp} (f0 : Lay_X1 h x0) (l : Launch) (hw : g_X1_byRule x0 x1 x2 Q h) : XM G l yX1_byRule cX1_byRule 5 (some (.object "NextAtBar$Ba\x72")) 9 198 [rV x0, iV x1, iV x2] (QR Q) h :=
  XM.of (by decide) (Nat.le_of_ble_eq_true rfl) (fun X HE hr hn => w_X1_byRule_0 HE hr f0 hw)
def g_X1_by_b25 (x0 x1 x2 x3 : Int) (Q : Int → Hp → Prop) (h : Hp) : Prop :=
  g_X1_refused x0 1 (fun r27 m27 => Ext h m27 → (Q r27 m27)) h
theorem w_X1_by_25 {G : GT} {X : ET} {h0 : Hp} {x0 x1 x2 x3 : Int} (HE : XE G X cX1_by 4 RX1 10 222 h0) (hr : XR X (some .int)) (f0 : Lay_X1 h0 x0) {Q : Int → Hp → Prop} {h : Hp} (hw : g_X1_by_b25 x0 x1 x2 x3 Q  h) : Wx G X h0 (QI Q) h 25 [some (rV x0), some (iV x1), some (iV x2), some (iV x3)] [] := by
  refine Wx.start (fun EB => ?_)
  unfold g_X1_by_b25 at hw
  refine x_aload_n HE 0 dX1_by_25 rfl rfl ?_
  refine x_iconst HE dX1_by_26 (by decide) ?_
  refine x_callV HE dX1_by_27 rfl (fun l => k_X1_refused (f0.ext EB) l hw) (As := [iV 1]) (rest := []) rfl xc11 (Lay_X1.tag (f0.ext EB)) (lw_V q279 q281 qs0 q123 q282) hy_X1_refused rfl rfl (Nat.le_of_ble_eq_true rfl) (Nat.le_of_ble_eq_true rfl) (Nat.le_of_ble_eq_true rfl) (kkI (fun r27 m27 E27 hw => ?_))
  have hw := hw E27
  exact x_iret HE hr dX1_by_30 hw
def g_X1_by (x0 x1 x2 x3 : Int) (Q : Int → Hp → Prop) (h : Hp) : Prop :=
  (((hF h x0 5) = 0) → (g_X1_by_b25 x0 x1 x2 x3 Q h)) ∧ ((0 < (hF h x0 5)) → (g_X1_in x1 0 4 (fun r10 m10 => Ext h m10 → (((r10 = 0) → (g_X1_by_b25 x0 x1 x2 x3 Q m10)) ∧ ((r10 ≠ 0) → (g_X1_in x3 0 5 (fun r19 m19 => Ext m10 m19 → (((r19 ≠ 0) → (g_X1_byRule x0 x1 x2 (fun r35 m35 => Ext m19 m35 → ((Lay_X21 m35 r35) ∧ (g_X21_sum r35 x3 (fun r39 m39 => Ext m35 m39 → (g_X1_well x0 r39 (fun r42 m42 => Ext m39 m42 → (Q r42 m42)) m39)) m35))) m19)) ∧ ((r19 = 0) → (g_X1_by_b25 x0 x1 x2 x3 Q m19)))) m10)))) h))
theorem w_X1_by_0 {G : GT} {X : ET} {h0 : Hp} {x0 x1 x2 x3 : Int} (HE : XE G X cX1_by 4 RX1 10 222 h0) (hr : XR X (some .int)) (f0 : Lay_X1 h0 x0) {Q : Int → Hp → Prop} {h : Hp} (hw : g_X1_by x0 x1 x2 x3 Q h) : Wx G X h0 (QI Q) h 0 [some (rV x0), some (iV x1), some (iV x2), some (iV x3)] [] := by
  refine Wx.start (fun EB => ?_)
  unfold g_X1_by at hw
  refine x_aload_n HE 0 dX1_by_0 rfl rfl ?_
  refine x_gR HE dX1_by_1 fd_X1_5 q227 (Or.inl rfl) (Lay_X1.tag (f0.ext EB)) rfl ?_
  refine x_ifnull HE 25 dX1_by_4 (by decide) (fun c4 => ?_) (fun c4 => ?_)
  · have hw := hw.1 c4
    exact w_X1_by_25 HE hr f0 hw
  · have hw := hw.2 c4
    refine x_iload_n HE 1 dX1_by_7 rfl rfl ?_
    refine x_iconst HE dX1_by_8 (by decide) ?_
    refine x_iconst HE dX1_by_9 (by decide) ?_
    refine x_callS HE dX1_by_10 rfl (fun l => k_X1_in  l hw) (As := [iV x1, iV 0, iV 4]) (rest := []) rfl (lw_S q276 q277 q123 q278) hy_X1_in.2 rfl rfl (Nat.le_of_ble_eq_true rfl) (Nat.le_of_ble_eq_true rfl) (Nat.le_of_ble_eq_true rfl) (kkI (fun r10 m10 E10 hw => ?_))
    have hw := hw E10
    refine x_if_eq HE 25 dX1_by_13 (by decide) (fun c13 => ?_) (fun c13 => ?_)
    · have hw := hw.1 c13
      exact w_X1_by_25 HE hr f0 hw
    · have hw := hw.2 c13
      refine x_iload_n HE 3 dX1_by_16 rfl rfl ?_
      refine x_iconst HE dX1_by_17 (by decide) ?_
      refine x_iconst HE dX1_by_18 (by decide) ?_
      refine x_callS HE dX1_by_19 rfl (fun l => k_X1_in  l hw) (As := [iV x3, iV 0, iV 5]) (rest := []) rfl (lw_S q276 q277 q123 q278) hy_X1_in.2 rfl rfl (Nat.le_of_ble_eq_true rfl) (Nat.le_of_ble_eq_true rfl) (Nat.le_of_ble_eq_true rfl) (kkI (fun r19 m19 E19 hw => ?_))
      have hw := hw E19
      refine x_if_ne HE 31 dX1_by_22 (by decide) (fun c22 => ?_) (fun c22 => ?_)
      · have hw := hw.1 c22
        refine x_aload_n HE 0 dX1_by_31 rfl rfl ?_
        refine x_aload_n HE 0 dX1_by_32 rfl rfl ?_
        refine x_iload_n HE 1 dX1_by_33 rfl rfl ?_
        refine x_iload_n HE 2 dX1_by_34 rfl rfl ?_
        refine x_callV HE dX1_by_35 rfl (fun l => k_X1_byRule (f0.ext (EB.tr (E10.tr E19))) l hw) (As := [iV x1, iV x2]) (rest := [rV x0]) rfl xc11 (Lay_X1.tag (f0.ext (EB.tr (E10.tr E19)))) (lw_V q1471 q1473 qs37 q123 q1474) hy_X1_byRule rfl rfl (Nat.le_of_ble_eq_true rfl) (Nat.le_of_ble_eq_true rfl) (Nat.le_of_ble_eq_true rfl) (kkR (fun r35 m35 E35 hw => ?_))
        have hw := hw E35
        refine x_iload_n HE 3 dX1_by_38 rfl rfl ?_
        obtain ⟨u39_0, hw⟩ := hw
        refine x_callV HE dX1_by_39 rfl (fun l => k_X21_sum u39_0 l hw) (As := [iV x3]) (rest := [rV x0]) rfl xc13 (Lay_X21.tag u39_0) (lw_V q1449 q1450 q1451 q157 q1452) hy_X21_sum rfl rfl (Nat.le_of_ble_eq_true rfl) (Nat.le_of_ble_eq_true rfl) (Nat.le_of_ble_eq_true rfl) (kkI (fun r39 m39 E39 hw => ?_))
        have hw := hw E39
        refine x_callV HE dX1_by_42 rfl (fun l => k_X1_well (f0.ext (EB.tr (E10.tr (E19.tr (E35.tr E39))))) l hw) (As := [iV r39]) (rest := []) rfl xc11 (Lay_X1.tag (f0.ext (EB.tr (E10.tr (E19.tr (E35.tr E39)))))) (lw_V q1253 q1255 qs26 q123 q1256) hy_X1_well rfl rfl (Nat.le_of_ble_eq_true rfl) (Nat.le_of_ble_eq_true rfl) (Nat.le_of_ble_eq_true rfl) (kkI (fun r42 m42 E42 hw => ?_))
        have hw := hw E42
        exact x_iret HE hr dX1_by_45 hw
      · have hw := hw.2 c22
        exact w_X1_by_25 HE hr f0 hw
theorem k_X1_by {G : GT} {x0 x1 x2 x3 : Int} {Q : Int → Hp → Prop} {h : Hp} (f0 : Lay_X1 h x0) (l : Launch) (hw : g_X1_by x0 x1 x2 x3 Q h) : XM G l yX1_by cX1_by 4 (some .int) 10 222 [rV x0, iV x1, iV x2, iV x3] (QI Q) h :=
  XM.of (by decide) (Nat.le_of_ble_eq_true rfl) (fun X HE hr hn => w_X1_by_0 HE hr f0 hw)
def g_X1_bestRule_b84 (x0 x1 : Int) (Q : Int → Hp → Prop) (l2 : Int) (h : Hp) : Prop :=
  g_X1_well x0 l2 (fun r86 m86 => Ext h m86 → (Q r86 m86)) h
theorem w_X1_bestRule_84 {G : GT} {X : ET} {h0 : Hp} {x0 x1 : Int} (HE : XE G X cX1_bestRule 6 RX1 10 222 h0) (hr : XR X (some .int)) (f0 : Lay_X1 h0 x0) {Q : Int → Hp → Prop} {l2 : Int} {h : Hp} (hw : g_X1_bestRule_b84 x0 x1 Q l2 h) : Wx G X h0 (QI Q) h 84 [some (rV x0), some (iV x1), some (iV l2), none, none, none] [] := by
  refine Wx.start (fun EB => ?_)
  unfold g_X1_bestRule_b84 at hw
  refine x_aload_n HE 0 dX1_bestRule_84 rfl rfl ?_
  refine x_iload_n HE 2 dX1_bestRule_85 rfl rfl ?_
  refine x_callV HE dX1_bestRule_86 rfl (fun l => k_X1_well (f0.ext EB) l hw) (As := [iV l2]) (rest := []) rfl xc11 (Lay_X1.tag (f0.ext EB)) (lw_V q1253 q1255 qs26 q123 q1256) hy_X1_well rfl rfl (Nat.le_of_ble_eq_true rfl) (Nat.le_of_ble_eq_true rfl) (Nat.le_of_ble_eq_true rfl) (kkI (fun r86 m86 E86 hw => ?_))
  have hw := hw E86
  exact x_iret HE hr dX1_bestRule_89 hw
def g_X1_bestRule_b78 (x0 x1 : Int) (Q : Int → Hp → Prop) (K20 : Int → Int → Int → Hp → Prop) (l2 l3 l4 : Int) (h : Hp) : Prop :=
  (i32 (l4 + 1)) ∧ (∀ y78 : Int, y78 = l4 + 1 → (K20 l2 l3 y78 h))
theorem w_X1_bestRule_78 {G : GT} {X : ET} {h0 : Hp} {x0 x1 : Int} (HE : XE G X cX1_bestRule 6 RX1 10 222 h0) (hr : XR X (some .int)) (f0 : Lay_X1 h0 x0) {Q : Int → Hp → Prop} {K20 : Int → Int → Int → Hp → Prop} (hK20 : ∀ (l2 l3 l4 : Int) (h : Hp), K20 l2 l3 l4 h → Wx G X h0 (QI Q) h 20 [some (rV x0), some (iV x1), some (iV l2), some (iV l3), some (iV l4), none] []) {l2 l3 l4 : Int} {h : Hp} (hw : g_X1_bestRule_b78 x0 x1 Q K20 l2 l3 l4 h) : Wx G X h0 (QI Q) h 78 [some (rV x0), some (iV x1), some (iV l2), some (iV l3), some (iV l4), none] [] := by
  refine Wx.start (fun EB => ?_)
  unfold g_X1_bestRule_b78 at hw
  obtain ⟨v78, hw⟩ := hw
  refine x_iincN HE (fun y78 => [some (rV x0), some (iV x1), some (iV l2), some (iV l3), some (iV y78), none]) dX1_bestRule_78 rfl v78 (Nat.le_of_ble_eq_true rfl) (fun _ => rfl) (fun y78 ey78 => ?_)
  have hw := hw y78 ey78
  refine x_goto HE 20 dX1_bestRule_81 (by decide) ?_
  exact hK20 _ _ _ _ hw
def g_X1_bestRule_b72 (x0 x1 : Int) (Q : Int → Hp → Prop) (K20 : Int → Int → Int → Hp → Prop) (l4 l5 : Int) (h : Hp) : Prop :=
  g_X1_bestRule_b78 x0 x1 Q K20 l4 l5 l4 h
theorem w_X1_bestRule_72 {G : GT} {X : ET} {h0 : Hp} {x0 x1 : Int} (HE : XE G X cX1_bestRule 6 RX1 10 222 h0) (hr : XR X (some .int)) (f0 : Lay_X1 h0 x0) {Q : Int → Hp → Prop} {K20 : Int → Int → Int → Hp → Prop} (hK20 : ∀ (l2 l3 l4 : Int) (h : Hp), K20 l2 l3 l4 h → Wx G X h0 (QI Q) h 20 [some (rV x0), some (iV x1), some (iV l2), some (iV l3), some (iV l4), none] []) {l4 l5 : Int} {h : Hp} (hw : g_X1_bestRule_b72 x0 x1 Q K20 l4 l5 h) : Wx G X h0 (QI Q) h 72 [some (rV x0), some (iV x1), none, none, some (iV l4), some (iV l5)] [] := by
  refine Wx.start (fun EB => ?_)
  unfold g_X1_bestRule_b72 at hw
  refine x_iload HE dX1_bestRule_72 rfl ?_
  refine x_istore_n HE 2 (lo' := [some (rV x0), some (iV x1), some (iV l4), none, some (iV l4), some (iV l5)]) dX1_bestRule_74 rfl (Nat.le_of_ble_eq_true rfl) rfl ?_
  refine x_iload HE dX1_bestRule_75 rfl ?_
  refine x_istore_n HE 3 (lo' := [some (rV x0), some (iV x1), some (iV l4), some (iV l5), some (iV l4), some (iV l5)]) dX1_bestRule_77 rfl (Nat.le_of_ble_eq_true rfl) rfl ?_
  refine Wx.mask [true, true, true, true, true, false] (lo2 := [some (rV x0), some (iV x1), some (iV l4), some (iV l5), some (iV l4), none]) rfl ?_
  exact w_X1_bestRule_78 HE hr f0 hK20 hw
def g_X1_bestRule_b56 (x0 x1 : Int) (Q : Int → Hp → Prop) (K20 : Int → Int → Int → Hp → Prop) (l2 l3 l4 s0 : Int) (h : Hp) : Prop :=
  ((l4 ≤ 0) → (g_X1_bestRule_b72 x0 x1 Q K20 l4 s0 h)) ∧ ((0 < l4) → (((s0 < l3) → (g_X1_bestRule_b72 x0 x1 Q K20 l4 s0 h)) ∧ ((l3 ≤ s0) → (g_X1_bestRule_b78 x0 x1 Q K20 l2 l3 l4 h))))
theorem w_X1_bestRule_56 {G : GT} {X : ET} {h0 : Hp} {x0 x1 : Int} (HE : XE G X cX1_bestRule 6 RX1 10 222 h0) (hr : XR X (some .int)) (f0 : Lay_X1 h0 x0) {Q : Int → Hp → Prop} {K20 : Int → Int → Int → Hp → Prop} (hK20 : ∀ (l2 l3 l4 : Int) (h : Hp), K20 l2 l3 l4 h → Wx G X h0 (QI Q) h 20 [some (rV x0), some (iV x1), some (iV l2), some (iV l3), some (iV l4), none] []) {l2 l3 l4 s0 : Int} {h : Hp} (hw : g_X1_bestRule_b56 x0 x1 Q K20 l2 l3 l4 s0 h) : Wx G X h0 (QI Q) h 56 [some (rV x0), some (iV x1), some (iV l2), some (iV l3), some (iV l4), none] [iV s0] := by
  refine Wx.start (fun EB => ?_)
  unfold g_X1_bestRule_b56 at hw
  refine x_istore HE (lo' := [some (rV x0), some (iV x1), some (iV l2), some (iV l3), some (iV l4), some (iV s0)]) dX1_bestRule_56 (Nat.le_of_ble_eq_true rfl) rfl ?_
  refine x_iload HE dX1_bestRule_58 rfl ?_
  refine x_if_le HE 72 dX1_bestRule_60 (by decide) (fun c60 => ?_) (fun c60 => ?_)
  · have hw := hw.1 c60
    refine Wx.mask [true, true, false, false, true, true] (lo2 := [some (rV x0), some (iV x1), none, none, some (iV l4), some (iV s0)]) rfl ?_
    exact w_X1_bestRule_72 HE hr f0 hK20 hw
  · have hw := hw.2 c60
    refine x_iload HE dX1_bestRule_63 rfl ?_
    refine x_iload_n HE 3 dX1_bestRule_65 rfl rfl ?_
    refine x_ic_lt HE 72 dX1_bestRule_66 (by decide) (fun c66 => ?_) (fun c66 => ?_)
    · have hw := hw.1 c66
      refine Wx.mask [true, true, false, false, true, true] (lo2 := [some (rV x0), some (iV x1), none, none, some (iV l4), some (iV s0)]) rfl ?_
      exact w_X1_bestRule_72 HE hr f0 hK20 hw
    · have hw := hw.2 c66
      refine x_goto HE 78 dX1_bestRule_69 (by decide) ?_
      refine Wx.mask [true, true, true, true, true, false] (lo2 := [some (rV x0), some (iV x1), some (iV l2), some (iV l3), some (iV l4), none]) rfl ?_
      exact w_X1_bestRule_78 HE hr f0 hK20 hw
def g_X1_bestRule_L20 (x0 x1 : Int) (Q : Int → Hp → Prop) (K20 : Int → Int → Int → Hp → Prop) (l2 l3 l4 : Int) (h : Hp) : Prop :=
  ((5 ≤ l4) → (g_X1_bestRule_b84 x0 x1 Q l2 h)) ∧ ((l4 < 5) → (((x1 = 0) → (g_X1_byRule x0 l4 0 (fun r48 m48 => Ext h m48 → ((Lay_X21 m48 r48) ∧ (g_X21_sum r48 0 (fun r52 m52 => Ext m48 m52 → ((i32 (-r52)) ∧ (g_X1_bestRule_b56 x0 x1 Q K20 l2 l3 l4 (-r52) m52))) m48))) h)) ∧ ((x1 ≠ 0) → (g_X1_byRule x0 l4 0 (fun r34 m34 => Ext h m34 → ((Lay_X21 m34 r34) ∧ (g_X21_sum r34 4 (fun r38 m38 => Ext m34 m38 → (g_X1_bestRule_b56 x0 x1 Q K20 l2 l3 l4 r38 m38)) m34))) h))))
theorem w_X1_bestRule_20 {G : GT} {X : ET} {h0 : Hp} {x0 x1 : Int} (HE : XE G X cX1_bestRule 6 RX1 10 222 h0) (hr : XR X (some .int)) (f0 : Lay_X1 h0 x0) {Q : Int → Hp → Prop} {K20 : Int → Int → Int → Hp → Prop} (hK20 : ∀ (l2 l3 l4 : Int) (h : Hp), K20 l2 l3 l4 h → Wx G X h0 (QI Q) h 20 [some (rV x0), some (iV x1), some (iV l2), some (iV l3), some (iV l4), none] []) {l2 l3 l4 : Int} {h : Hp} (hw : g_X1_bestRule_L20 x0 x1 Q K20 l2 l3 l4 h) : Wx G X h0 (QI Q) h 20 [some (rV x0), some (iV x1), some (iV l2), some (iV l3), some (iV l4), none] [] := by
  refine Wx.start (fun EB => ?_)
  unfold g_X1_bestRule_L20 at hw
  refine x_iload HE dX1_bestRule_20 rfl ?_
  refine x_iconst HE dX1_bestRule_22 (by decide) ?_
  refine x_ic_ge HE 84 dX1_bestRule_23 (by decide) (fun c23 => ?_) (fun c23 => ?_)
  · have hw := hw.1 c23
    refine Wx.mask [true, true, true, false, false, true] (lo2 := [some (rV x0), some (iV x1), some (iV l2), none, none, none]) rfl ?_
    exact w_X1_bestRule_84 HE hr f0 hw
  · have hw := hw.2 c23
    refine x_iload_n HE 1 dX1_bestRule_26 rfl rfl ?_
    refine x_if_eq HE 44 dX1_bestRule_27 (by decide) (fun c27 => ?_) (fun c27 => ?_)
    · have hw := hw.1 c27
      refine x_aload_n HE 0 dX1_bestRule_44 rfl rfl ?_
      refine x_iload HE dX1_bestRule_45 rfl ?_
      refine x_iconst HE dX1_bestRule_47 (by decide) ?_
      refine x_callV HE dX1_bestRule_48 rfl (fun l => k_X1_byRule (f0.ext EB) l hw) (As := [iV l4, iV 0]) (rest := []) rfl xc11 (Lay_X1.tag (f0.ext EB)) (lw_V q1471 q1473 qs37 q123 q1474) hy_X1_byRule rfl rfl (Nat.le_of_ble_eq_true rfl) (Nat.le_of_ble_eq_true rfl) (Nat.le_of_ble_eq_true rfl) (kkR (fun r48 m48 E48 hw => ?_))
      have hw := hw E48
      refine x_iconst HE dX1_bestRule_51 (by decide) ?_
      obtain ⟨u52_0, hw⟩ := hw
      refine x_callV HE dX1_bestRule_52 rfl (fun l => k_X21_sum u52_0 l hw) (As := [iV 0]) (rest := []) rfl xc13 (Lay_X21.tag u52_0) (lw_V q1449 q1450 q1451 q157 q1452) hy_X21_sum rfl rfl (Nat.le_of_ble_eq_true rfl) (Nat.le_of_ble_eq_true rfl) (Nat.le_of_ble_eq_true rfl) (kkI (fun r52 m52 E52 hw => ?_))
      have hw := hw E52
      obtain ⟨v55, hw⟩ := hw
      refine x_ineg HE dX1_bestRule_55 v55 ?_
      exact w_X1_bestRule_56 HE hr f0 hK20 hw
    · have hw := hw.2 c27
      refine x_aload_n HE 0 dX1_bestRule_30 rfl rfl ?_
      refine x_iload HE dX1_bestRule_31 rfl ?_
      refine x_iconst HE dX1_bestRule_33 (by decide) ?_
      refine x_callV HE dX1_bestRule_34 rfl (fun l => k_X1_byRule (f0.ext EB) l hw) (As := [iV l4, iV 0]) (rest := []) rfl xc11 (Lay_X1.tag (f0.ext EB)) (lw_V q1471 q1473 qs37 q123 q1474) hy_X1_byRule rfl rfl (Nat.le_of_ble_eq_true rfl) (Nat.le_of_ble_eq_true rfl) (Nat.le_of_ble_eq_true rfl) (kkR (fun r34 m34 E34 hw => ?_))
      have hw := hw E34
      refine x_iconst HE dX1_bestRule_37 (by decide) ?_
      obtain ⟨u38_0, hw⟩ := hw
      refine x_callV HE dX1_bestRule_38 rfl (fun l => k_X21_sum u38_0 l hw) (As := [iV 4]) (rest := []) rfl xc13 (Lay_X21.tag u38_0) (lw_V q1449 q1450 q1451 q157 q1452) hy_X21_sum rfl rfl (Nat.le_of_ble_eq_true rfl) (Nat.le_of_ble_eq_true rfl) (Nat.le_of_ble_eq_true rfl) (kkI (fun r38 m38 E38 hw => ?_))
      have hw := hw E38
      refine x_goto HE 56 dX1_bestRule_41 (by decide) ?_
      exact w_X1_bestRule_56 HE hr f0 hK20 hw
theorem wl_X1_bestRule_20 {G : GT} {X : ET} {h0 : Hp} {x0 x1 : Int} (HE : XE G X cX1_bestRule 6 RX1 10 222 h0) (hr : XR X (some .int)) (f0 : Lay_X1 h0 x0) {Q : Int → Hp → Prop} {l2 l3 l4 : Int} {h : Hp} (hw : Lp3 (g_X1_bestRule_L20 x0 x1 Q) l2 l3 l4 h) : Wx G X h0 (QI Q) h 20 [some (rV x0), some (iV x1), some (iV l2), some (iV l3), some (iV l4), none] [] := by
  obtain ⟨n, hw⟩ := hw
  induction n generalizing l2 l3 l4 h with
  | zero => exact hw.elim
  | succ n ih => exact w_X1_bestRule_20 HE hr f0 (fun _ _ _ _ hk => ih hk) hw
def g_X1_bestRule (x0 x1 : Int) (Q : Int → Hp → Prop) (h : Hp) : Prop :=
  ((0 < (hF h x0 5)) → (Lp3 (g_X1_bestRule_L20 x0 x1 Q) 0 0 0 h)) ∧ (((hF h x0 5) = 0) → (g_X1_refused x0 1 (fun r9 m9 => Ext h m9 → (Q r9 m9)) h))
theorem w_X1_bestRule_0 {G : GT} {X : ET} {h0 : Hp} {x0 x1 : Int} (HE : XE G X cX1_bestRule 6 RX1 10 222 h0) (hr : XR X (some .int)) (f0 : Lay_X1 h0 x0) {Q : Int → Hp → Prop} {h : Hp} (hw : g_X1_bestRule x0 x1 Q h) : Wx G X h0 (QI Q) h 0 [some (rV x0), some (iV x1), none, none, none, none] [] := by
  refine Wx.start (fun EB => ?_)
  unfold g_X1_bestRule at hw
  refine x_aload_n HE 0 dX1_bestRule_0 rfl rfl ?_
  refine x_gR HE dX1_bestRule_1 fd_X1_5 q227 (Or.inl rfl) (Lay_X1.tag (f0.ext EB)) rfl ?_
  refine x_ifnonnull HE 13 dX1_bestRule_4 (by decide) (fun c4 => ?_) (fun c4 => ?_)
  · have hw := hw.1 c4
    refine x_iconst HE dX1_bestRule_13 (by decide) ?_
    refine x_istore_n HE 2 (lo' := [some (rV x0), some (iV x1), some (iV 0), none, none, none]) dX1_bestRule_14 rfl (Nat.le_of_ble_eq_true rfl) rfl ?_
    refine x_iconst HE dX1_bestRule_15 (by decide) ?_
    refine x_istore_n HE 3 (lo' := [some (rV x0), some (iV x1), some (iV 0), some (iV 0), none, none]) dX1_bestRule_16 rfl (Nat.le_of_ble_eq_true rfl) rfl ?_
    refine x_iconst HE dX1_bestRule_17 (by decide) ?_
    refine x_istore HE (lo' := [some (rV x0), some (iV x1), some (iV 0), some (iV 0), some (iV 0), none]) dX1_bestRule_18 (Nat.le_of_ble_eq_true rfl) rfl ?_
    exact wl_X1_bestRule_20 HE hr f0 hw
  · have hw := hw.2 c4
    refine x_aload_n HE 0 dX1_bestRule_7 rfl rfl ?_
    refine x_iconst HE dX1_bestRule_8 (by decide) ?_
    refine x_callV HE dX1_bestRule_9 rfl (fun l => k_X1_refused (f0.ext EB) l hw) (As := [iV 1]) (rest := []) rfl xc11 (Lay_X1.tag (f0.ext EB)) (lw_V q279 q281 qs0 q123 q282) hy_X1_refused rfl rfl (Nat.le_of_ble_eq_true rfl) (Nat.le_of_ble_eq_true rfl) (Nat.le_of_ble_eq_true rfl) (kkI (fun r9 m9 E9 hw => ?_))
    have hw := hw E9
    exact x_iret HE hr dX1_bestRule_12 hw
theorem k_X1_bestRule {G : GT} {x0 x1 : Int} {Q : Int → Hp → Prop} {h : Hp} (f0 : Lay_X1 h x0) (l : Launch) (hw : g_X1_bestRule x0 x1 Q h) : XM G l yX1_bestRule cX1_bestRule 6 (some .int) 10 222 [rV x0, iV x1] (QI Q) h :=
  XM.of (by decide) (Nat.le_of_ble_eq_true rfl) (fun X HE hr hn => w_X1_bestRule_0 HE hr f0 hw)
def g_X1_lost (x0 x1 x2 : Int) (Q : Int → Hp → Prop) (h : Hp) : Prop :=
  g_X1_refused x0 x1 (fun r2 m2 => Ext h m2 → (Q x2 m2)) h
theorem w_X1_lost_0 {G : GT} {X : ET} {h0 : Hp} {x0 x1 x2 : Int} (HE : XE G X cX1_lost 3 RX1 1 21 h0) (hr : XR X (some .int)) (f0 : Lay_X1 h0 x0) {Q : Int → Hp → Prop} {h : Hp} (hw : g_X1_lost x0 x1 x2 Q h) : Wx G X h0 (QI Q) h 0 [some (rV x0), some (iV x1), some (iV x2)] [] := by
  refine Wx.start (fun EB => ?_)
  unfold g_X1_lost at hw
  refine x_aload_n HE 0 dX1_lost_0 rfl rfl ?_
  refine x_iload_n HE 1 dX1_lost_1 rfl rfl ?_
  refine x_callV HE dX1_lost_2 rfl (fun l => k_X1_refused (f0.ext EB) l hw) (As := [iV x1]) (rest := []) rfl xc11 (Lay_X1.tag (f0.ext EB)) (lw_V q279 q281 qs0 q123 q282) hy_X1_refused rfl rfl (Nat.le_of_ble_eq_true rfl) (Nat.le_of_ble_eq_true rfl) (Nat.le_of_ble_eq_true rfl) (kkI (fun r2 m2 E2 hw => ?_))
  have hw := hw E2
  refine x_pop HE dX1_lost_5 (fun o => o) ?_
  refine x_iload_n HE 2 dX1_lost_6 rfl rfl ?_
  exact x_iret HE hr dX1_lost_7 hw
theorem k_X1_lost {G : GT} {x0 x1 x2 : Int} {Q : Int → Hp → Prop} {h : Hp} (f0 : Lay_X1 h x0) (l : Launch) (hw : g_X1_lost x0 x1 x2 Q h) : XM G l yX1_lost cX1_lost 3 (some .int) 1 21 [rV x0, iV x1, iV x2] (QI Q) h :=
  XM.of (by decide) (Nat.le_of_ble_eq_true rfl) (fun X HE hr hn => w_X1_lost_0 HE hr f0 hw)
def g_X1_hand (x0 : Int) (Q : Int → Hp → Prop) (h : Hp) : Prop :=
  ((0 < (hF h x0 5)) → ((capOK h 7) ∧ (∀ (a15 : Int) (m15 : Hp), a15 = hN h → m15 = alloc h 16 0 7 → WFa h → ((capOK m15 0) ∧ (∀ (a22 : Int) (m22 : Hp), a22 = hN m15 → m22 = alloc m15 30 0 0 → WFa m15 → (g_X15_init a22 (fun m26 => Ext m22 m26 → (g_X10_init a15 (hF m15 0 1) a22 (fun m29 => Ext m26 m29 → ((Lay_X7 m29 (hF m29 x0 5)) ∧ (((0 : Int) ≤ (hF m29 (hF m29 x0 5) 0) ∧ (0 : Int) < 2) ∧ (∀ m43 : Hp, m43 = setF m29 a15 2 ((hF m29 (hF m29 x0 5) 0) / 2) → ((Lay_X7 m43 (hF m43 x0 5)) ∧ ((i32 ((hF m43 (hF m43 x0 5) 0) - 1)) ∧ (∀ m56 : Hp, m56 = setF m43 a15 4 ((hF m43 (hF m43 x0 5) 0) - 1) → (∀ m61 : Hp, m61 = setF m56 a15 5 1 → (∀ m66 : Hp, m66 = setF m61 a15 6 1 → (g_X1_toCome x0 (fun r70 m70 => Ext m66 m70 → ((Lay_X21 m70 r70) ∧ (g_X21_sum r70 0 (fun r74 m74 => Ext m70 m74 → (g_X1_tries x0 (fun r79 m79 => Ext m74 m79 → ((Lay_X21 m79 r79) ∧ ((i32 (2 * (hF m79 r79 23))) ∧ (((0 : Int) ≤ (2 * (hF m79 r79 23)) ∧ (2 * (hF m79 r79 23)) < 8) ∧ (∀ m94 : Hp, m94 = setA m79 (r79 + 20) (2 * (hF m79 r79 23)) 0 → (g_X21_adds r79 a15 (fun m97 => Ext m94 m97 → (g_X21_evening r79 (fun r102 m102 => Ext m97 m102 → ((Lay_X21 m102 r102) ∧ (g_X21_sum r102 0 (fun r106 m106 => Ext m102 m106 → ((i32 (r106 - r74)) ∧ (g_X1_well x0 (r106 - r74) (fun r111 m111 => Ext m106 m111 → (Q r111 m111)) m106))) m102))) m97)) m94)))))) m74)) m70))) m66)))))))))) m26)) m22)))))) ∧ (((hF h x0 5) = 0) → (g_X1_lost x0 1 (-100) (fun r11 m11 => Ext h m11 → (Q r11 m11)) h))
theorem w_X1_hand_0 {G : GT} {X : ET} {h0 : Hp} {x0 : Int} (HE : XE G X cX1_hand 4 RX1 10 218 h0) (hr : XR X (some .int)) (f0 : Lay_X1 h0 x0) {Q : Int → Hp → Prop} {h : Hp} (hw : g_X1_hand x0 Q h) : Wx G X h0 (QI Q) h 0 [some (rV x0), none, none, none] [] := by
  refine Wx.start (fun EB => ?_)
  unfold g_X1_hand at hw
  refine x_aload_n HE 0 dX1_hand_0 rfl rfl ?_
  refine x_gR HE dX1_hand_1 fd_X1_5 q227 (Or.inl rfl) (Lay_X1.tag (f0.ext EB)) rfl ?_
  refine x_ifnonnull HE 15 dX1_hand_4 (by decide) (fun c4 => ?_) (fun c4 => ?_)
  · have hw := hw.1 c4
    obtain ⟨v15, hw⟩ := hw
    refine x_newN HE dX1_hand_15 xc16 (by decide) (nro (by decide)) q1492 q847 q146 v15 (fun a15 m15 ea15 em15 E15 w15 => ?_)
    have hw := hw a15 m15 ea15 em15 w15
    have t15 := alloc_tag ea15 em15
    refine x_dup HE dX1_hand_18 (fun o => o) ?_
    refine x_ldcwS (k := 0) HE dX1_hand_19 (List.mem_of_getElem? (i := 38) rfl) (fun hp19 => ?_)
    obtain ⟨v22, hw⟩ := hw
    refine x_newN HE dX1_hand_22 xc30 (by decide) (nro (by decide)) q884 q885 q151 v22 (fun a22 m22 ea22 em22 E22 w22 => ?_)
    have hw := hw a22 m22 ea22 em22 w22
    have t22 := alloc_tag ea22 em22
    refine x_dup HE dX1_hand_25 (fun o => o) ?_
    refine Wx.wf (fun wf26 => ?_)
    refine x_callIN HE dX1_hand_26 rfl (fun l => k_X15_init t22 l hw) (As := []) (rest := [rV a22, rV (hF m15 0 1), rV a15, rV a15]) rfl (tag_pos wf26 t22 (by decide)) (List.mem_of_getElem? (i := 15) rfl) q151 q887 q888 rfl hy_X15_init.2 rfl rfl (Nat.le_of_ble_eq_true rfl) (Nat.le_of_ble_eq_true rfl) (Nat.le_of_ble_eq_true rfl) (kkV (fun m26 E26 hw => ?_))
    have hw := hw E26
    refine Wx.wf (fun wf29 => ?_)
    refine x_callI HE dX1_hand_29 rfl (fun l => k_X10_init ((E22.tr E26).tag t15 (by decide)) l hw) (As := [rV (hF m15 0 1), rV a22]) (rest := [rV a15]) rfl (tag_pos wf29 ((E22.tr E26).tag t15 (by decide)) (by decide)) q1494 q146 q899 q900 rfl hy_X10_init.2 rfl rfl (Nat.le_of_ble_eq_true rfl) (Nat.le_of_ble_eq_true rfl) (Nat.le_of_ble_eq_true rfl) (kkV (fun m29 E29 hw => ?_))
    have hw := hw E29
    refine x_astore_n HE 1 (lo' := [some (rV x0), some (rV a15), none, none]) dX1_hand_32 rfl (Nat.le_of_ble_eq_true rfl) rfl ?_
    refine x_aload_n HE 1 dX1_hand_33 rfl rfl ?_
    refine x_aload_n HE 0 dX1_hand_34 rfl rfl ?_
    refine x_gR HE dX1_hand_35 fd_X1_5 q227 (Or.inl rfl) (Lay_X1.tag (f0.ext (EB.tr (E15.tr (E22.tr (E26.tr E29)))))) rfl ?_
    obtain ⟨v38, hw⟩ := hw
    refine x_gI HE dX1_hand_38 fd_X7_0 q314 (Or.inl rfl) (Lay_X7.tag v38) rfl ?_
    refine x_iconst HE dX1_hand_41 (by decide) ?_
    obtain ⟨v42, hw⟩ := hw
    refine x_idiv HE dX1_hand_42 v42.1 v42.2 ?_
    refine x_pI HE dX1_hand_43 fd_X10_2 q908 (Or.inl rfl) (Or.inl rfl) (nf_int _) ((E22.tr (E26.tr E29)).tag t15 (by decide)) (nro (by decide)) (Or.inl nf_X10_2) (fun m43 em43 E43 => ?_)
    have hw := hw m43 em43
    refine x_aload_n HE 1 dX1_hand_46 rfl rfl ?_
    refine x_aload_n HE 0 dX1_hand_47 rfl rfl ?_
    refine x_gR HE dX1_hand_48 fd_X1_5 q227 (Or.inl rfl) (Lay_X1.tag (f0.ext (EB.tr (E15.tr (E22.tr (E26.tr (E29.tr E43))))))) rfl ?_
    obtain ⟨v51, hw⟩ := hw
    refine x_gI HE dX1_hand_51 fd_X7_0 q314 (Or.inl rfl) (Lay_X7.tag v51) rfl ?_
    refine x_iconst HE dX1_hand_54 (by decide) ?_
    obtain ⟨v55, hw⟩ := hw
    refine x_isub HE dX1_hand_55 v55 ?_
    refine x_pI HE dX1_hand_56 fd_X10_4 q913 (Or.inl rfl) (Or.inl rfl) (nf_int _) ((E22.tr (E26.tr (E29.tr E43))).tag t15 (by decide)) (nro (by decide)) (Or.inl nf_X10_4) (fun m56 em56 E56 => ?_)
    have hw := hw m56 em56
    refine x_aload_n HE 1 dX1_hand_59 rfl rfl ?_
    refine x_iconst HE dX1_hand_60 (by decide) ?_
    refine x_pI HE dX1_hand_61 fd_X10_5 q916 (Or.inl rfl) (Or.inl rfl) (nf_int _) ((E22.tr (E26.tr (E29.tr (E43.tr E56)))).tag t15 (by decide)) (nro (by decide)) (Or.inl nf_X10_5) (fun m61 em61 E61 => ?_)
    have hw := hw m61 em61
    refine x_aload_n HE 1 dX1_hand_64 rfl rfl ?_
    refine x_iconst HE dX1_hand_65 (by decide) ?_
    refine x_pI HE dX1_hand_66 fd_X10_6 q919 (Or.inl rfl) (Or.inl rfl) (nf_int _) ((E22.tr (E26.tr (E29.tr (E43.tr (E56.tr E61))))).tag t15 (by decide)) (nro (by decide)) (Or.inl nf_X10_6) (fun m66 em66 E66 => ?_)
    have hw := hw m66 em66
    refine x_aload_n HE 0 dX1_hand_69 rfl rfl ?_
    refine x_callV HE dX1_hand_70 rfl (fun l => k_X1_toCome (f0.ext (EB.tr (E15.tr (E22.tr (E26.tr (E29.tr (E43.tr (E56.tr (E61.tr E66))))))))) l hw) (As := []) (rest := []) rfl xc11 (Lay_X1.tag (f0.ext (EB.tr (E15.tr (E22.tr (E26.tr (E29.tr (E43.tr (E56.tr (E61.tr E66)))))))))) (lw_V q1385 q1387 qs32 q123 q1388) hy_X1_toCome rfl rfl (Nat.le_of_ble_eq_true rfl) (Nat.le_of_ble_eq_true rfl) (Nat.le_of_ble_eq_true rfl) (kkR (fun r70 m70 E70 hw => ?_))
    have hw := hw E70
    refine x_iconst HE dX1_hand_73 (by decide) ?_
    obtain ⟨u74_0, hw⟩ := hw
    refine x_callV HE dX1_hand_74 rfl (fun l => k_X21_sum u74_0 l hw) (As := [iV 0]) (rest := []) rfl xc13 (Lay_X21.tag u74_0) (lw_V q1449 q1450 q1451 q157 q1452) hy_X21_sum rfl rfl (Nat.le_of_ble_eq_true rfl) (Nat.le_of_ble_eq_true rfl) (Nat.le_of_ble_eq_true rfl) (kkI (fun r74 m74 E74 hw => ?_))
    have hw := hw E74
    refine x_istore_n HE 2 (lo' := [some (rV x0), some (rV a15), some (iV r74), none]) dX1_hand_77 rfl (Nat.le_of_ble_eq_true rfl) rfl ?_
    refine x_aload_n HE 0 dX1_hand_78 rfl rfl ?_
    refine x_callV HE dX1_hand_79 rfl (fun l => k_X1_tries (f0.ext (EB.tr (E15.tr (E22.tr (E26.tr (E29.tr (E43.tr (E56.tr (E61.tr (E66.tr (E70.tr E74))))))))))) l hw) (As := []) (rest := []) rfl xc11 (Lay_X1.tag (f0.ext (EB.tr (E15.tr (E22.tr (E26.tr (E29.tr (E43.tr (E56.tr (E61.tr (E66.tr (E70.tr E74)))))))))))) (lw_V q1475 q1477 qs38 q123 q1478) hy_X1_tries rfl rfl (Nat.le_of_ble_eq_true rfl) (Nat.le_of_ble_eq_true rfl) (Nat.le_of_ble_eq_true rfl) (kkR (fun r79 m79 E79 hw => ?_))
    have hw := hw E79
    refine x_astore_n HE 3 (lo' := [some (rV x0), some (rV a15), some (iV r74), some (rV r79)]) dX1_hand_82 rfl (Nat.le_of_ble_eq_true rfl) rfl ?_
    refine x_aload_n HE 3 dX1_hand_83 rfl rfl ?_
    obtain ⟨v84, hw⟩ := hw
    refine x_gR HE dX1_hand_84 fd_X21_21 q1166 (Or.inl rfl) (Lay_X21.tag v84) (Lay_X21_21 v84).1 ?_
    refine x_iconst HE dX1_hand_87 (by decide) ?_
    refine x_aload_n HE 3 dX1_hand_88 rfl rfl ?_
    refine x_gI HE dX1_hand_89 fd_X21_23 q1170 (Or.inl rfl) (Lay_X21.tag v84) rfl ?_
    obtain ⟨v92, hw⟩ := hw
    refine x_imul HE dX1_hand_92 v92 ?_
    refine x_iconst HE dX1_hand_93 (by decide) ?_
    obtain ⟨i94, hw⟩ := hw
    refine x_iast HE dX1_hand_94 ((Lay_X21_21 v84).2.1) (ix_of ((Lay_X21_21 v84).2.2) i94) (fun m94 em94 E94 => ?_)
    have hw := hw m94 em94
    refine x_aload_n HE 3 dX1_hand_95 rfl rfl ?_
    refine x_aload_n HE 1 dX1_hand_96 rfl rfl ?_
    refine x_callV HE dX1_hand_97 rfl (fun l => k_X21_adds (v84.ext E94) l hw) (As := [rV a15]) (rest := []) rfl xc13 (Lay_X21.tag (v84.ext E94)) (lw_V q1495 q1119 q1120 q157 q1121) hy_X21_adds rfl rfl (Nat.le_of_ble_eq_true rfl) (Nat.le_of_ble_eq_true rfl) (Nat.le_of_ble_eq_true rfl) (kkV (fun m97 E97 hw => ?_))
    have hw := hw E97
    refine x_aload_n HE 0 dX1_hand_100 rfl rfl ?_
    refine x_aload_n HE 3 dX1_hand_101 rfl rfl ?_
    refine x_callV HE dX1_hand_102 rfl (fun l => k_X21_evening (v84.ext (E94.tr E97)) l hw) (As := []) (rest := [rV x0]) rfl xc13 (Lay_X21.tag (v84.ext (E94.tr E97))) (lw_V q1390 q1391 q1392 q157 q1393) hy_X21_evening rfl rfl (Nat.le_of_ble_eq_true rfl) (Nat.le_of_ble_eq_true rfl) (Nat.le_of_ble_eq_true rfl) (kkR (fun r102 m102 E102 hw => ?_))
    have hw := hw E102
    refine x_iconst HE dX1_hand_105 (by decide) ?_
    obtain ⟨u106_0, hw⟩ := hw
    refine x_callV HE dX1_hand_106 rfl (fun l => k_X21_sum u106_0 l hw) (As := [iV 0]) (rest := [rV x0]) rfl xc13 (Lay_X21.tag u106_0) (lw_V q1449 q1450 q1451 q157 q1452) hy_X21_sum rfl rfl (Nat.le_of_ble_eq_true rfl) (Nat.le_of_ble_eq_true rfl) (Nat.le_of_ble_eq_true rfl) (kkI (fun r106 m106 E106 hw => ?_))
    have hw := hw E106
    refine x_iload_n HE 2 dX1_hand_109 rfl rfl ?_
    obtain ⟨v110, hw⟩ := hw
    refine x_isub HE dX1_hand_110 v110 ?_
    refine x_callV HE dX1_hand_111 rfl (fun l => k_X1_well (f0.ext (EB.tr (E15.tr (E22.tr (E26.tr (E29.tr (E43.tr (E56.tr (E61.tr (E66.tr (E70.tr (E74.tr (E79.tr (E94.tr (E97.tr (E102.tr E106)))))))))))))))) l hw) (As := [iV (r106 - r74)]) (rest := []) rfl xc11 (Lay_X1.tag (f0.ext (EB.tr (E15.tr (E22.tr (E26.tr (E29.tr (E43.tr (E56.tr (E61.tr (E66.tr (E70.tr (E74.tr (E79.tr (E94.tr (E97.tr (E102.tr E106))))))))))))))))) (lw_V q1253 q1255 qs26 q123 q1256) hy_X1_well rfl rfl (Nat.le_of_ble_eq_true rfl) (Nat.le_of_ble_eq_true rfl) (Nat.le_of_ble_eq_true rfl) (kkI (fun r111 m111 E111 hw => ?_))
    have hw := hw E111
    exact x_iret HE hr dX1_hand_114 hw
  · have hw := hw.2 c4
    refine x_aload_n HE 0 dX1_hand_7 rfl rfl ?_
    refine x_iconst HE dX1_hand_8 (by decide) ?_
    refine x_bipush HE dX1_hand_9 (by decide) ?_
    refine x_callV HE dX1_hand_11 rfl (fun l => k_X1_lost (f0.ext EB) l hw) (As := [iV 1, iV (-100)]) (rest := []) rfl xc11 (Lay_X1.tag (f0.ext EB)) (lw_V q1488 q1490 qs39 q123 q1491) hy_X1_lost rfl rfl (Nat.le_of_ble_eq_true rfl) (Nat.le_of_ble_eq_true rfl) (Nat.le_of_ble_eq_true rfl) (kkI (fun r11 m11 E11 hw => ?_))
    have hw := hw E11
    exact x_iret HE hr dX1_hand_14 hw
theorem k_X1_hand {G : GT} {x0 : Int} {Q : Int → Hp → Prop} {h : Hp} (f0 : Lay_X1 h x0) (l : Launch) (hw : g_X1_hand x0 Q h) : XM G l yX1_hand cX1_hand 4 (some .int) 10 218 [rV x0] (QI Q) h :=
  XM.of (by decide) (Nat.le_of_ble_eq_true rfl) (fun X HE hr hn => w_X1_hand_0 HE hr f0 hw)
def g_X1_beforehand_b43 (x0 x1 : Int) (Q : Int → Hp → Prop) (h : Hp) : Prop :=
  g_X1_lost x0 5 (-1000) (fun r48 m48 => Ext h m48 → (Q r48 m48)) h
theorem w_X1_beforehand_43 {G : GT} {X : ET} {h0 : Hp} {x0 x1 : Int} (HE : XE G X cX1_beforehand 4 RX1 10 218 h0) (hr : XR X (some .int)) (f0 : Lay_X1 h0 x0) {Q : Int → Hp → Prop} {h : Hp} (hw : g_X1_beforehand_b43 x0 x1 Q  h) : Wx G X h0 (QI Q) h 43 [some (rV x0), some (iV x1), none, none] [] := by
  refine Wx.start (fun EB => ?_)
  unfold g_X1_beforehand_b43 at hw
  refine x_aload_n HE 0 dX1_beforehand_43 rfl rfl ?_
  refine x_iconst HE dX1_beforehand_44 (by decide) ?_
  refine x_sipush HE dX1_beforehand_45 (by decide) ?_
  refine x_callV HE dX1_beforehand_48 rfl (fun l => k_X1_lost (f0.ext EB) l hw) (As := [iV 5, iV (-1000)]) (rest := []) rfl xc11 (Lay_X1.tag (f0.ext EB)) (lw_V q1488 q1490 qs39 q123 q1491) hy_X1_lost rfl rfl (Nat.le_of_ble_eq_true rfl) (Nat.le_of_ble_eq_true rfl) (Nat.le_of_ble_eq_true rfl) (kkI (fun r48 m48 E48 hw => ?_))
  have hw := hw E48
  exact x_iret HE hr dX1_beforehand_51 hw
def g_X1_beforehand (x0 x1 : Int) (Q : Int → Hp → Prop) (h : Hp) : Prop :=
  g_X1_isPerson x0 x1 (fun r2 m2 => Ext h m2 → (((r2 ≠ 0) → ((Lay_X21 m2 (hF m2 x0 6)) ∧ (((0 : Int) ≤ x1 ∧ x1 < 10) ∧ ((((hA m2 ((hF m2 x0 6) + 1) x1) ≠ 0) → (g_X1_beforehand_b43 x0 x1 Q m2)) ∧ (((hA m2 ((hF m2 x0 6) + 1) x1) = 0) → (((0 : Int) ≤ x1 ∧ x1 < 10) ∧ ((((hA m2 ((hF m2 x0 6) + 5) x1) = (-2)) → (g_X1_toCome x0 (fun r53 m53 => Ext m2 m53 → ((Lay_X21 m53 r53) ∧ (g_X21_sum r53 3 (fun r57 m57 => Ext m53 m57 → (g_X1_tries x0 (fun r62 m62 => Ext m57 m62 → ((Lay_X21 m62 r62) ∧ ((Lay_X7 m62 (hF m62 x0 5)) ∧ (g_J2_get ((hF m62 x0 5) + 3) x1 (fun r79 m79 => Ext m62 m79 → ((Lay_X17 m79 r79) ∧ (((0 : Int) ≤ x1 ∧ x1 < 10) ∧ (∀ m88 : Hp, m88 = setA m79 (r62 + 5) x1 (hF m79 r79 3) → (g_X21_evening r62 (fun r92 m92 => Ext m88 m92 → ((Lay_X21 m92 r92) ∧ (g_X21_sum r92 3 (fun r96 m96 => Ext m92 m96 → ((i32 (r57 - r96)) ∧ (g_X1_well x0 (r57 - r96) (fun r100 m100 => Ext m96 m100 → (Q r100 m100)) m96))) m92))) m88))))) m62)))) m57)) m53))) m2)) ∧ (((hA m2 ((hF m2 x0 6) + 5) x1) ≠ (-2)) → (g_X1_beforehand_b43 x0 x1 Q m2))))))))) ∧ ((r2 = 0) → (g_X1_lost x0 1 (-1000) (fun r13 m13 => Ext m2 m13 → (Q r13 m13)) m2)))) h
theorem w_X1_beforehand_0 {G : GT} {X : ET} {h0 : Hp} {x0 x1 : Int} (HE : XE G X cX1_beforehand 4 RX1 10 218 h0) (hr : XR X (some .int)) (f0 : Lay_X1 h0 x0) {Q : Int → Hp → Prop} {h : Hp} (hw : g_X1_beforehand x0 x1 Q h) : Wx G X h0 (QI Q) h 0 [some (rV x0), some (iV x1), none, none] [] := by
  refine Wx.start (fun EB => ?_)
  unfold g_X1_beforehand at hw
  refine x_aload_n HE 0 dX1_beforehand_0 rfl rfl ?_
  refine x_iload_n HE 1 dX1_beforehand_1 rfl rfl ?_
  refine x_callV HE dX1_beforehand_2 rfl (fun l => k_X1_isPerson (f0.ext EB) l hw) (As := [iV x1]) (rest := []) rfl xc11 (Lay_X1.tag (f0.ext EB)) (lw_V q1269 q1271 qs27 q123 q1272) hy_X1_isPerson rfl rfl (Nat.le_of_ble_eq_true rfl) (Nat.le_of_ble_eq_true rfl) (Nat.le_of_ble_eq_true rfl) (kkI (fun r2 m2 E2 hw => ?_))
  have hw := hw E2
  refine x_if_ne HE 17 dX1_beforehand_5 (by decide) (fun c5 => ?_) (fun c5 => ?_)
  · have hw := hw.1 c5
    refine x_aload_n HE 0 dX1_beforehand_17 rfl rfl ?_
    refine x_gR HE dX1_beforehand_18 fd_X1_6 q228 (Or.inl rfl) (Lay_X1.tag (f0.ext (EB.tr E2))) rfl ?_
    obtain ⟨v21, hw⟩ := hw
    refine x_gR HE dX1_beforehand_21 fd_X21_2 q1125 (Or.inl rfl) (Lay_X21.tag v21) (Lay_X21_2 v21).1 ?_
    refine x_iload_n HE 1 dX1_beforehand_24 rfl rfl ?_
    obtain ⟨i25, hw⟩ := hw
    refine x_iald HE dX1_beforehand_25 (t := 1) (by decide) ((Lay_X21_2 v21).2.1) (ix_of ((Lay_X21_2 v21).2.2) i25) rfl ?_
    refine x_if_ne HE 43 dX1_beforehand_26 (by decide) (fun c26 => ?_) (fun c26 => ?_)
    · have hw := hw.1 c26
      exact w_X1_beforehand_43 HE hr f0 hw
    · have hw := hw.2 c26
      refine x_aload_n HE 0 dX1_beforehand_29 rfl rfl ?_
      refine x_gR HE dX1_beforehand_30 fd_X1_6 q228 (Or.inl rfl) (Lay_X1.tag (f0.ext (EB.tr E2))) rfl ?_
      refine x_gR HE dX1_beforehand_33 fd_X21_6 q1137 (Or.inl rfl) (Lay_X21.tag v21) (Lay_X21_6 v21).1 ?_
      refine x_iload_n HE 1 dX1_beforehand_36 rfl rfl ?_
      obtain ⟨i37, hw⟩ := hw
      refine x_iald HE dX1_beforehand_37 (t := 1) (by decide) ((Lay_X21_6 v21).2.1) (ix_of ((Lay_X21_6 v21).2.2) i37) rfl ?_
      refine x_bipush HE dX1_beforehand_38 (by decide) ?_
      refine x_ic_eq HE 52 dX1_beforehand_40 (by decide) (fun c40 => ?_) (fun c40 => ?_)
      · have hw := hw.1 c40
        refine x_aload_n HE 0 dX1_beforehand_52 rfl rfl ?_
        refine x_callV HE dX1_beforehand_53 rfl (fun l => k_X1_toCome (f0.ext (EB.tr E2)) l hw) (As := []) (rest := []) rfl xc11 (Lay_X1.tag (f0.ext (EB.tr E2))) (lw_V q1385 q1387 qs32 q123 q1388) hy_X1_toCome rfl rfl (Nat.le_of_ble_eq_true rfl) (Nat.le_of_ble_eq_true rfl) (Nat.le_of_ble_eq_true rfl) (kkR (fun r53 m53 E53 hw => ?_))
        have hw := hw E53
        refine x_iconst HE dX1_beforehand_56 (by decide) ?_
        obtain ⟨u57_0, hw⟩ := hw
        refine x_callV HE dX1_beforehand_57 rfl (fun l => k_X21_sum u57_0 l hw) (As := [iV 3]) (rest := []) rfl xc13 (Lay_X21.tag u57_0) (lw_V q1449 q1450 q1451 q157 q1452) hy_X21_sum rfl rfl (Nat.le_of_ble_eq_true rfl) (Nat.le_of_ble_eq_true rfl) (Nat.le_of_ble_eq_true rfl) (kkI (fun r57 m57 E57 hw => ?_))
        have hw := hw E57
        refine x_istore_n HE 2 (lo' := [some (rV x0), some (iV x1), some (iV r57), none]) dX1_beforehand_60 rfl (Nat.le_of_ble_eq_true rfl) rfl ?_
        refine x_aload_n HE 0 dX1_beforehand_61 rfl rfl ?_
        refine x_callV HE dX1_beforehand_62 rfl (fun l => k_X1_tries (f0.ext (EB.tr (E2.tr (E53.tr E57)))) l hw) (As := []) (rest := []) rfl xc11 (Lay_X1.tag (f0.ext (EB.tr (E2.tr (E53.tr E57))))) (lw_V q1475 q1477 qs38 q123 q1478) hy_X1_tries rfl rfl (Nat.le_of_ble_eq_true rfl) (Nat.le_of_ble_eq_true rfl) (Nat.le_of_ble_eq_true rfl) (kkR (fun r62 m62 E62 hw => ?_))
        have hw := hw E62
        refine x_astore_n HE 3 (lo' := [some (rV x0), some (iV x1), some (iV r57), some (rV r62)]) dX1_beforehand_65 rfl (Nat.le_of_ble_eq_true rfl) rfl ?_
        refine x_aload_n HE 3 dX1_beforehand_66 rfl rfl ?_
        obtain ⟨v67, hw⟩ := hw
        refine x_gR HE dX1_beforehand_67 fd_X21_6 q1137 (Or.inl rfl) (Lay_X21.tag v67) (Lay_X21_6 v67).1 ?_
        refine x_iload_n HE 1 dX1_beforehand_70 rfl rfl ?_
        refine x_aload_n HE 0 dX1_beforehand_71 rfl rfl ?_
        refine x_gR HE dX1_beforehand_72 fd_X1_5 q227 (Or.inl rfl) (Lay_X1.tag (f0.ext (EB.tr (E2.tr (E53.tr (E57.tr E62)))))) rfl ?_
        obtain ⟨v75, hw⟩ := hw
        refine x_gR HE dX1_beforehand_75 fd_X7_5 q331 (Or.inl rfl) (Lay_X7.tag v75) (Lay_X7_5 v75).1 ?_
        refine x_iload_n HE 1 dX1_beforehand_78 rfl rfl ?_
        refine x_callV HE dX1_beforehand_79 rfl (fun l => k_J2_get ((Lay_X7_5 v75).2) l hw) (As := [iV x1]) (rest := [iV x1, rV (r62 + 5)]) rfl xc32 ((Lay_X7_5 v75).2) (lw_V q1500 q736 q737 q128 q738) hy_J2_get rfl rfl (Nat.le_of_ble_eq_true rfl) (Nat.le_of_ble_eq_true rfl) (Nat.le_of_ble_eq_true rfl) (kkR (fun r79 m79 E79 hw => ?_))
        have hw := hw E79
        obtain ⟨v82, hw⟩ := hw
        refine x_castS HE dX1_beforehand_82 xc14 q1501 (Lay_X17.tag v82) ?_
        refine x_gI HE dX1_beforehand_85 fd_X17_3 q988 (Or.inl rfl) (Lay_X17.tag v82) rfl ?_
        obtain ⟨i88, hw⟩ := hw
        refine x_iast HE dX1_beforehand_88 ((Lay_X21_6 (v67.ext E79)).2.1) (ix_of ((Lay_X21_6 (v67.ext E79)).2.2) i88) (fun m88 em88 E88 => ?_)
        have hw := hw m88 em88
        refine x_aload_n HE 0 dX1_beforehand_89 rfl rfl ?_
        refine x_iload_n HE 2 dX1_beforehand_90 rfl rfl ?_
        refine x_aload_n HE 3 dX1_beforehand_91 rfl rfl ?_
        refine x_callV HE dX1_beforehand_92 rfl (fun l => k_X21_evening (v67.ext (E79.tr E88)) l hw) (As := []) (rest := [iV r57, rV x0]) rfl xc13 (Lay_X21.tag (v67.ext (E79.tr E88))) (lw_V q1390 q1391 q1392 q157 q1393) hy_X21_evening rfl rfl (Nat.le_of_ble_eq_true rfl) (Nat.le_of_ble_eq_true rfl) (Nat.le_of_ble_eq_true rfl) (kkR (fun r92 m92 E92 hw => ?_))
        have hw := hw E92
        refine x_iconst HE dX1_beforehand_95 (by decide) ?_
        obtain ⟨u96_0, hw⟩ := hw
        refine x_callV HE dX1_beforehand_96 rfl (fun l => k_X21_sum u96_0 l hw) (As := [iV 3]) (rest := [iV r57, rV x0]) rfl xc13 (Lay_X21.tag u96_0) (lw_V q1449 q1450 q1451 q157 q1452) hy_X21_sum rfl rfl (Nat.le_of_ble_eq_true rfl) (Nat.le_of_ble_eq_true rfl) (Nat.le_of_ble_eq_true rfl) (kkI (fun r96 m96 E96 hw => ?_))
        have hw := hw E96
        obtain ⟨v99, hw⟩ := hw
        refine x_isub HE dX1_beforehand_99 v99 ?_
        refine x_callV HE dX1_beforehand_100 rfl (fun l => k_X1_well (f0.ext (EB.tr (E2.tr (E53.tr (E57.tr (E62.tr (E79.tr (E88.tr (E92.tr E96))))))))) l hw) (As := [iV (r57 - r96)]) (rest := []) rfl xc11 (Lay_X1.tag (f0.ext (EB.tr (E2.tr (E53.tr (E57.tr (E62.tr (E79.tr (E88.tr (E92.tr E96)))))))))) (lw_V q1253 q1255 qs26 q123 q1256) hy_X1_well rfl rfl (Nat.le_of_ble_eq_true rfl) (Nat.le_of_ble_eq_true rfl) (Nat.le_of_ble_eq_true rfl) (kkI (fun r100 m100 E100 hw => ?_))
        have hw := hw E100
        exact x_iret HE hr dX1_beforehand_103 hw
      · have hw := hw.2 c40
        exact w_X1_beforehand_43 HE hr f0 hw
  · have hw := hw.2 c5
    refine x_aload_n HE 0 dX1_beforehand_8 rfl rfl ?_
    refine x_iconst HE dX1_beforehand_9 (by decide) ?_
    refine x_sipush HE dX1_beforehand_10 (by decide) ?_
    refine x_callV HE dX1_beforehand_13 rfl (fun l => k_X1_lost (f0.ext (EB.tr E2)) l hw) (As := [iV 1, iV (-1000)]) (rest := []) rfl xc11 (Lay_X1.tag (f0.ext (EB.tr E2))) (lw_V q1488 q1490 qs39 q123 q1491) hy_X1_lost rfl rfl (Nat.le_of_ble_eq_true rfl) (Nat.le_of_ble_eq_true rfl) (Nat.le_of_ble_eq_true rfl) (kkI (fun r13 m13 E13 hw => ?_))
    have hw := hw E13
    exact x_iret HE hr dX1_beforehand_16 hw
theorem k_X1_beforehand {G : GT} {x0 x1 : Int} {Q : Int → Hp → Prop} {h : Hp} (f0 : Lay_X1 h x0) (l : Launch) (hw : g_X1_beforehand x0 x1 Q h) : XM G l yX1_beforehand cX1_beforehand 4 (some .int) 10 218 [rV x0, iV x1] (QI Q) h :=
  XM.of (by decide) (Nat.le_of_ble_eq_true rfl) (fun X HE hr hn => w_X1_beforehand_0 HE hr f0 hw)
def g_X1_bestPlace_b117 (x0 x1 : Int) (Q : Int → Hp → Prop) (l2 : Int) (h : Hp) : Prop :=
  g_X1_well x0 l2 (fun r119 m119 => Ext h m119 → (Q r119 m119)) h
theorem w_X1_bestPlace_117 {G : GT} {X : ET} {h0 : Hp} {x0 x1 : Int} (HE : XE G X cX1_bestPlace 6 RX1 9 198 h0) (hr : XR X (some .int)) (f0 : Lay_X1 h0 x0) {Q : Int → Hp → Prop} {l2 : Int} {h : Hp} (hw : g_X1_bestPlace_b117 x0 x1 Q l2 h) : Wx G X h0 (QI Q) h 117 [some (rV x0), some (iV x1), some (iV l2), none, none, none] [] := by
  refine Wx.start (fun EB => ?_)
  unfold g_X1_bestPlace_b117 at hw
  refine x_aload_n HE 0 dX1_bestPlace_117 rfl rfl ?_
  refine x_iload_n HE 2 dX1_bestPlace_118 rfl rfl ?_
  refine x_callV HE dX1_bestPlace_119 rfl (fun l => k_X1_well (f0.ext EB) l hw) (As := [iV l2]) (rest := []) rfl xc11 (Lay_X1.tag (f0.ext EB)) (lw_V q1253 q1255 qs26 q123 q1256) hy_X1_well rfl rfl (Nat.le_of_ble_eq_true rfl) (Nat.le_of_ble_eq_true rfl) (Nat.le_of_ble_eq_true rfl) (kkI (fun r119 m119 E119 hw => ?_))
  have hw := hw E119
  exact x_iret HE hr dX1_bestPlace_122 hw
def g_X1_bestPlace_b111 (x0 x1 : Int) (Q : Int → Hp → Prop) (K40 : Int → Int → Int → Hp → Prop) (l2 l3 l4 : Int) (h : Hp) : Prop :=
  (i32 (l4 + 1)) ∧ (∀ y111 : Int, y111 = l4 + 1 → (K40 l2 l3 y111 h))
theorem w_X1_bestPlace_111 {G : GT} {X : ET} {h0 : Hp} {x0 x1 : Int} (HE : XE G X cX1_bestPlace 6 RX1 9 198 h0) (hr : XR X (some .int)) (f0 : Lay_X1 h0 x0) {Q : Int → Hp → Prop} {K40 : Int → Int → Int → Hp → Prop} (hK40 : ∀ (l2 l3 l4 : Int) (h : Hp), K40 l2 l3 l4 h → Wx G X h0 (QI Q) h 40 [some (rV x0), some (iV x1), some (iV l2), some (iV l3), some (iV l4), none] []) {l2 l3 l4 : Int} {h : Hp} (hw : g_X1_bestPlace_b111 x0 x1 Q K40 l2 l3 l4 h) : Wx G X h0 (QI Q) h 111 [some (rV x0), some (iV x1), some (iV l2), some (iV l3), some (iV l4), none] [] := by
  refine Wx.start (fun EB => ?_)
  unfold g_X1_bestPlace_b111 at hw
  obtain ⟨v111, hw⟩ := hw
  refine x_iincN HE (fun y111 => [some (rV x0), some (iV x1), some (iV l2), some (iV l3), some (iV y111), none]) dX1_bestPlace_111 rfl v111 (Nat.le_of_ble_eq_true rfl) (fun _ => rfl) (fun y111 ey111 => ?_)
  have hw := hw y111 ey111
  refine x_goto HE 40 dX1_bestPlace_114 (by decide) ?_
  exact hK40 _ _ _ _ hw
def g_X1_bestPlace_b101 (x0 x1 : Int) (Q : Int → Hp → Prop) (K40 : Int → Int → Int → Hp → Prop) (l4 l5 : Int) (h : Hp) : Prop :=
  (Lay_X21 h l5) ∧ (g_X21_waits l5 x1 (fun r107 m107 => Ext h m107 → (g_X1_bestPlace_b111 x0 x1 Q K40 l4 r107 l4 m107)) h)
theorem w_X1_bestPlace_101 {G : GT} {X : ET} {h0 : Hp} {x0 x1 : Int} (HE : XE G X cX1_bestPlace 6 RX1 9 198 h0) (hr : XR X (some .int)) (f0 : Lay_X1 h0 x0) {Q : Int → Hp → Prop} {K40 : Int → Int → Int → Hp → Prop} (hK40 : ∀ (l2 l3 l4 : Int) (h : Hp), K40 l2 l3 l4 h → Wx G X h0 (QI Q) h 40 [some (rV x0), some (iV x1), some (iV l2), some (iV l3), some (iV l4), none] []) {l4 l5 : Int} {h : Hp} (hw : g_X1_bestPlace_b101 x0 x1 Q K40 l4 l5 h) : Wx G X h0 (QI Q) h 101 [some (rV x0), some (iV x1), none, none, some (iV l4), some (rV l5)] [] := by
  refine Wx.start (fun EB => ?_)
  unfold g_X1_bestPlace_b101 at hw
  refine x_iload HE dX1_bestPlace_101 rfl ?_
  refine x_istore_n HE 2 (lo' := [some (rV x0), some (iV x1), some (iV l4), none, some (iV l4), some (rV l5)]) dX1_bestPlace_103 rfl (Nat.le_of_ble_eq_true rfl) rfl ?_
  refine x_aload HE dX1_bestPlace_104 rfl ?_
  refine x_iload_n HE 1 dX1_bestPlace_106 rfl rfl ?_
  obtain ⟨u107_0, hw⟩ := hw
  refine x_callV HE dX1_bestPlace_107 rfl (fun l => k_X21_waits u107_0 l hw) (As := [iV x1]) (rest := []) rfl xc13 (Lay_X21.tag u107_0) (lw_V q1425 q1426 q1427 q157 q1428) hy_X21_waits rfl rfl (Nat.le_of_ble_eq_true rfl) (Nat.le_of_ble_eq_true rfl) (Nat.le_of_ble_eq_true rfl) (kkI (fun r107 m107 E107 hw => ?_))
  have hw := hw E107
  refine x_istore_n HE 3 (lo' := [some (rV x0), some (iV x1), some (iV l4), some (iV r107), some (iV l4), some (rV l5)]) dX1_bestPlace_110 rfl (Nat.le_of_ble_eq_true rfl) rfl ?_
  refine Wx.mask [true, true, true, true, true, false] (lo2 := [some (rV x0), some (iV x1), some (iV l4), some (iV r107), some (iV l4), none]) rfl ?_
  exact w_X1_bestPlace_111 HE hr f0 hK40 hw
def g_X1_bestPlace_L40 (x0 x1 : Int) (Q : Int → Hp → Prop) (K40 : Int → Int → Int → Hp → Prop) (l2 l3 l4 : Int) (h : Hp) : Prop :=
  (Lay_X7 h (hF h x0 5)) ∧ ((((hF h (hF h x0 5) 0) ≤ l4) → (g_X1_bestPlace_b117 x0 x1 Q l2 h)) ∧ ((l4 < (hF h (hF h x0 5) 0)) → (g_X1_tries x0 (fun r53 m53 => Ext h m53 → ((Lay_X21 m53 r53) ∧ (((0 : Int) ≤ x1 ∧ x1 < 10) ∧ (∀ m66 : Hp, m66 = setA m53 (r53 + 2) x1 l4 → (g_X21_evening r53 (fun r69 m69 => Ext m66 m69 → (g_X21_hasIt r53 x1 (fun r76 m76 => Ext m69 m76 → (((r76 = 0) → (g_X1_bestPlace_b111 x0 x1 Q K40 l2 l3 l4 m76)) ∧ ((r76 ≠ 0) → (((l2 = (-2)) → (g_X1_bestPlace_b101 x0 x1 Q K40 l4 r53 m76)) ∧ ((l2 ≠ (-2)) → (g_X21_waits r53 x1 (fun r91 m91 => Ext m76 m91 → (((r91 < l3) → (g_X1_bestPlace_b101 x0 x1 Q K40 l4 r53 m91)) ∧ ((l3 ≤ r91) → (g_X1_bestPlace_b111 x0 x1 Q K40 l2 l3 l4 m91)))) m76)))))) m69)) m66))))) h)))
theorem w_X1_bestPlace_40 {G : GT} {X : ET} {h0 : Hp} {x0 x1 : Int} (HE : XE G X cX1_bestPlace 6 RX1 9 198 h0) (hr : XR X (some .int)) (f0 : Lay_X1 h0 x0) {Q : Int → Hp → Prop} {K40 : Int → Int → Int → Hp → Prop} (hK40 : ∀ (l2 l3 l4 : Int) (h : Hp), K40 l2 l3 l4 h → Wx G X h0 (QI Q) h 40 [some (rV x0), some (iV x1), some (iV l2), some (iV l3), some (iV l4), none] []) {l2 l3 l4 : Int} {h : Hp} (hw : g_X1_bestPlace_L40 x0 x1 Q K40 l2 l3 l4 h) : Wx G X h0 (QI Q) h 40 [some (rV x0), some (iV x1), some (iV l2), some (iV l3), some (iV l4), none] [] := by
  refine Wx.start (fun EB => ?_)
  unfold g_X1_bestPlace_L40 at hw
  refine x_iload HE dX1_bestPlace_40 rfl ?_
  refine x_aload_n HE 0 dX1_bestPlace_42 rfl rfl ?_
  refine x_gR HE dX1_bestPlace_43 fd_X1_5 q227 (Or.inl rfl) (Lay_X1.tag (f0.ext EB)) rfl ?_
  obtain ⟨v46, hw⟩ := hw
  refine x_gI HE dX1_bestPlace_46 fd_X7_0 q314 (Or.inl rfl) (Lay_X7.tag v46) rfl ?_
  refine x_ic_ge HE 117 dX1_bestPlace_49 (by decide) (fun c49 => ?_) (fun c49 => ?_)
  · have hw := hw.1 c49
    refine Wx.mask [true, true, true, false, false, true] (lo2 := [some (rV x0), some (iV x1), some (iV l2), none, none, none]) rfl ?_
    exact w_X1_bestPlace_117 HE hr f0 hw
  · have hw := hw.2 c49
    refine x_aload_n HE 0 dX1_bestPlace_52 rfl rfl ?_
    refine x_callV HE dX1_bestPlace_53 rfl (fun l => k_X1_tries (f0.ext EB) l hw) (As := []) (rest := []) rfl xc11 (Lay_X1.tag (f0.ext EB)) (lw_V q1475 q1477 qs38 q123 q1478) hy_X1_tries rfl rfl (Nat.le_of_ble_eq_true rfl) (Nat.le_of_ble_eq_true rfl) (Nat.le_of_ble_eq_true rfl) (kkR (fun r53 m53 E53 hw => ?_))
    have hw := hw E53
    refine x_astore HE (lo' := [some (rV x0), some (iV x1), some (iV l2), some (iV l3), some (iV l4), some (rV r53)]) dX1_bestPlace_56 (Nat.le_of_ble_eq_true rfl) rfl ?_
    refine x_aload HE dX1_bestPlace_58 rfl ?_
    obtain ⟨v60, hw⟩ := hw
    refine x_gR HE dX1_bestPlace_60 fd_X21_3 q1129 (Or.inl rfl) (Lay_X21.tag v60) (Lay_X21_3 v60).1 ?_
    refine x_iload_n HE 1 dX1_bestPlace_63 rfl rfl ?_
    refine x_iload HE dX1_bestPlace_64 rfl ?_
    obtain ⟨i66, hw⟩ := hw
    refine x_iast HE dX1_bestPlace_66 ((Lay_X21_3 v60).2.1) (ix_of ((Lay_X21_3 v60).2.2) i66) (fun m66 em66 E66 => ?_)
    have hw := hw m66 em66
    refine x_aload HE dX1_bestPlace_67 rfl ?_
    refine x_callV HE dX1_bestPlace_69 rfl (fun l => k_X21_evening (v60.ext E66) l hw) (As := []) (rest := []) rfl xc13 (Lay_X21.tag (v60.ext E66)) (lw_V q1390 q1391 q1392 q157 q1393) hy_X21_evening rfl rfl (Nat.le_of_ble_eq_true rfl) (Nat.le_of_ble_eq_true rfl) (Nat.le_of_ble_eq_true rfl) (kkR (fun r69 m69 E69 hw => ?_))
    have hw := hw E69
    refine x_pop HE dX1_bestPlace_72 (fun o => o) ?_
    refine x_aload HE dX1_bestPlace_73 rfl ?_
    refine x_iload_n HE 1 dX1_bestPlace_75 rfl rfl ?_
    refine x_callV HE dX1_bestPlace_76 rfl (fun l => k_X21_hasIt (v60.ext (E66.tr E69)) l hw) (As := [iV x1]) (rest := []) rfl xc13 (Lay_X21.tag (v60.ext (E66.tr E69))) (lw_V q1506 q1454 q1455 q157 q1456) hy_X21_hasIt rfl rfl (Nat.le_of_ble_eq_true rfl) (Nat.le_of_ble_eq_true rfl) (Nat.le_of_ble_eq_true rfl) (kkI (fun r76 m76 E76 hw => ?_))
    have hw := hw E76
    refine x_if_eq HE 111 dX1_bestPlace_79 (by decide) (fun c79 => ?_) (fun c79 => ?_)
    · have hw := hw.1 c79
      refine Wx.mask [true, true, true, true, true, false] (lo2 := [some (rV x0), some (iV x1), some (iV l2), some (iV l3), some (iV l4), none]) rfl ?_
      exact w_X1_bestPlace_111 HE hr f0 hK40 hw
    · have hw := hw.2 c79
      refine x_iload_n HE 2 dX1_bestPlace_82 rfl rfl ?_
      refine x_bipush HE dX1_bestPlace_83 (by decide) ?_
      refine x_ic_eq HE 101 dX1_bestPlace_85 (by decide) (fun c85 => ?_) (fun c85 => ?_)
      · have hw := hw.1 c85
        refine Wx.mask [true, true, false, false, true, true] (lo2 := [some (rV x0), some (iV x1), none, none, some (iV l4), some (rV r53)]) rfl ?_
        exact w_X1_bestPlace_101 HE hr f0 hK40 hw
      · have hw := hw.2 c85
        refine x_aload HE dX1_bestPlace_88 rfl ?_
        refine x_iload_n HE 1 dX1_bestPlace_90 rfl rfl ?_
        refine x_callV HE dX1_bestPlace_91 rfl (fun l => k_X21_waits (v60.ext (E66.tr (E69.tr E76))) l hw) (As := [iV x1]) (rest := []) rfl xc13 (Lay_X21.tag (v60.ext (E66.tr (E69.tr E76)))) (lw_V q1425 q1426 q1427 q157 q1428) hy_X21_waits rfl rfl (Nat.le_of_ble_eq_true rfl) (Nat.le_of_ble_eq_true rfl) (Nat.le_of_ble_eq_true rfl) (kkI (fun r91 m91 E91 hw => ?_))
        have hw := hw E91
        refine x_iload_n HE 3 dX1_bestPlace_94 rfl rfl ?_
        refine x_ic_lt HE 101 dX1_bestPlace_95 (by decide) (fun c95 => ?_) (fun c95 => ?_)
        · have hw := hw.1 c95
          refine Wx.mask [true, true, false, false, true, true] (lo2 := [some (rV x0), some (iV x1), none, none, some (iV l4), some (rV r53)]) rfl ?_
          exact w_X1_bestPlace_101 HE hr f0 hK40 hw
        · have hw := hw.2 c95
          refine x_goto HE 111 dX1_bestPlace_98 (by decide) ?_
          refine Wx.mask [true, true, true, true, true, false] (lo2 := [some (rV x0), some (iV x1), some (iV l2), some (iV l3), some (iV l4), none]) rfl ?_
          exact w_X1_bestPlace_111 HE hr f0 hK40 hw
theorem wl_X1_bestPlace_40 {G : GT} {X : ET} {h0 : Hp} {x0 x1 : Int} (HE : XE G X cX1_bestPlace 6 RX1 9 198 h0) (hr : XR X (some .int)) (f0 : Lay_X1 h0 x0) {Q : Int → Hp → Prop} {l2 l3 l4 : Int} {h : Hp} (hw : Lp3 (g_X1_bestPlace_L40 x0 x1 Q) l2 l3 l4 h) : Wx G X h0 (QI Q) h 40 [some (rV x0), some (iV x1), some (iV l2), some (iV l3), some (iV l4), none] [] := by
  obtain ⟨n, hw⟩ := hw
  induction n generalizing l2 l3 l4 h with
  | zero => exact hw.elim
  | succ n ih => exact w_X1_bestPlace_40 HE hr f0 (fun _ _ _ _ hk => ih hk) hw
def g_X1_bestPlace (x0 x1 : Int) (Q : Int → Hp → Prop) (h : Hp) : Prop :=
  g_X1_isPerson x0 x1 (fun r2 m2 => Ext h m2 → (((r2 ≠ 0) → ((Lay_X21 m2 (hF m2 x0 6)) ∧ (((0 : Int) ≤ x1 ∧ x1 < 10) ∧ ((((hA m2 ((hF m2 x0 6) + 1) x1) = 0) → (Lp3 (g_X1_bestPlace_L40 x0 x1 Q) (-2) 0 0 m2)) ∧ (((hA m2 ((hF m2 x0 6) + 1) x1) ≠ 0) → (g_X1_refused x0 5 (fun r28 m28 => Ext m2 m28 → (Q r28 m28)) m2)))))) ∧ ((r2 = 0) → (g_X1_refused x0 1 (fun r10 m10 => Ext m2 m10 → (Q r10 m10)) m2)))) h
theorem w_X1_bestPlace_0 {G : GT} {X : ET} {h0 : Hp} {x0 x1 : Int} (HE : XE G X cX1_bestPlace 6 RX1 9 198 h0) (hr : XR X (some .int)) (f0 : Lay_X1 h0 x0) {Q : Int → Hp → Prop} {h : Hp} (hw : g_X1_bestPlace x0 x1 Q h) : Wx G X h0 (QI Q) h 0 [some (rV x0), some (iV x1), none, none, none, none] [] := by
  refine Wx.start (fun EB => ?_)
  unfold g_X1_bestPlace at hw
  refine x_aload_n HE 0 dX1_bestPlace_0 rfl rfl ?_
  refine x_iload_n HE 1 dX1_bestPlace_1 rfl rfl ?_
  refine x_callV HE dX1_bestPlace_2 rfl (fun l => k_X1_isPerson (f0.ext EB) l hw) (As := [iV x1]) (rest := []) rfl xc11 (Lay_X1.tag (f0.ext EB)) (lw_V q1269 q1271 qs27 q123 q1272) hy_X1_isPerson rfl rfl (Nat.le_of_ble_eq_true rfl) (Nat.le_of_ble_eq_true rfl) (Nat.le_of_ble_eq_true rfl) (kkI (fun r2 m2 E2 hw => ?_))
  have hw := hw E2
  refine x_if_ne HE 14 dX1_bestPlace_5 (by decide) (fun c5 => ?_) (fun c5 => ?_)
  · have hw := hw.1 c5
    refine x_aload_n HE 0 dX1_bestPlace_14 rfl rfl ?_
    refine x_gR HE dX1_bestPlace_15 fd_X1_6 q228 (Or.inl rfl) (Lay_X1.tag (f0.ext (EB.tr E2))) rfl ?_
    obtain ⟨v18, hw⟩ := hw
    refine x_gR HE dX1_bestPlace_18 fd_X21_2 q1125 (Or.inl rfl) (Lay_X21.tag v18) (Lay_X21_2 v18).1 ?_
    refine x_iload_n HE 1 dX1_bestPlace_21 rfl rfl ?_
    obtain ⟨i22, hw⟩ := hw
    refine x_iald HE dX1_bestPlace_22 (t := 1) (by decide) ((Lay_X21_2 v18).2.1) (ix_of ((Lay_X21_2 v18).2.2) i22) rfl ?_
    refine x_if_eq HE 32 dX1_bestPlace_23 (by decide) (fun c23 => ?_) (fun c23 => ?_)
    · have hw := hw.1 c23
      refine x_bipush HE dX1_bestPlace_32 (by decide) ?_
      refine x_istore_n HE 2 (lo' := [some (rV x0), some (iV x1), some (iV (-2)), none, none, none]) dX1_bestPlace_34 rfl (Nat.le_of_ble_eq_true rfl) rfl ?_
      refine x_iconst HE dX1_bestPlace_35 (by decide) ?_
      refine x_istore_n HE 3 (lo' := [some (rV x0), some (iV x1), some (iV (-2)), some (iV 0), none, none]) dX1_bestPlace_36 rfl (Nat.le_of_ble_eq_true rfl) rfl ?_
      refine x_iconst HE dX1_bestPlace_37 (by decide) ?_
      refine x_istore HE (lo' := [some (rV x0), some (iV x1), some (iV (-2)), some (iV 0), some (iV 0), none]) dX1_bestPlace_38 (Nat.le_of_ble_eq_true rfl) rfl ?_
      exact wl_X1_bestPlace_40 HE hr f0 hw
    · have hw := hw.2 c23
      refine x_aload_n HE 0 dX1_bestPlace_26 rfl rfl ?_
      refine x_iconst HE dX1_bestPlace_27 (by decide) ?_
      refine x_callV HE dX1_bestPlace_28 rfl (fun l => k_X1_refused (f0.ext (EB.tr E2)) l hw) (As := [iV 5]) (rest := []) rfl xc11 (Lay_X1.tag (f0.ext (EB.tr E2))) (lw_V q279 q281 qs0 q123 q282) hy_X1_refused rfl rfl (Nat.le_of_ble_eq_true rfl) (Nat.le_of_ble_eq_true rfl) (Nat.le_of_ble_eq_true rfl) (kkI (fun r28 m28 E28 hw => ?_))
      have hw := hw E28
      exact x_iret HE hr dX1_bestPlace_31 hw
  · have hw := hw.2 c5
    refine x_aload_n HE 0 dX1_bestPlace_8 rfl rfl ?_
    refine x_iconst HE dX1_bestPlace_9 (by decide) ?_
    refine x_callV HE dX1_bestPlace_10 rfl (fun l => k_X1_refused (f0.ext (EB.tr E2)) l hw) (As := [iV 1]) (rest := []) rfl xc11 (Lay_X1.tag (f0.ext (EB.tr E2))) (lw_V q279 q281 qs0 q123 q282) hy_X1_refused rfl rfl (Nat.le_of_ble_eq_true rfl) (Nat.le_of_ble_eq_true rfl) (Nat.le_of_ble_eq_true rfl) (kkI (fun r10 m10 E10 hw => ?_))
    have hw := hw E10
    exact x_iret HE hr dX1_bestPlace_13 hw
theorem k_X1_bestPlace {G : GT} {x0 x1 : Int} {Q : Int → Hp → Prop} {h : Hp} (f0 : Lay_X1 h x0) (l : Launch) (hw : g_X1_bestPlace x0 x1 Q h) : XM G l yX1_bestPlace cX1_bestPlace 6 (some .int) 9 198 [rV x0, iV x1] (QI Q) h :=
  XM.of (by decide) (Nat.le_of_ble_eq_true rfl) (fun X HE hr hn => w_X1_bestPlace_0 HE hr f0 hw)
def g_X1_bestManner_b115 (x0 x1 : Int) (Q : Int → Hp → Prop) (l2 : Int) (h : Hp) : Prop :=
  g_X1_well x0 l2 (fun r117 m117 => Ext h m117 → (Q r117 m117)) h
theorem w_X1_bestManner_115 {G : GT} {X : ET} {h0 : Hp} {x0 x1 : Int} (HE : XE G X cX1_bestManner 6 RX1 9 198 h0) (hr : XR X (some .int)) (f0 : Lay_X1 h0 x0) {Q : Int → Hp → Prop} {l2 : Int} {h : Hp} (hw : g_X1_bestManner_b115 x0 x1 Q l2 h) : Wx G X h0 (QI Q) h 115 [some (rV x0), some (iV x1), some (iV l2), none, none, none] [] := by
  refine Wx.start (fun EB => ?_)
  unfold g_X1_bestManner_b115 at hw
  refine x_aload_n HE 0 dX1_bestManner_115 rfl rfl ?_
  refine x_iload_n HE 2 dX1_bestManner_116 rfl rfl ?_
  refine x_callV HE dX1_bestManner_117 rfl (fun l => k_X1_well (f0.ext EB) l hw) (As := [iV l2]) (rest := []) rfl xc11 (Lay_X1.tag (f0.ext EB)) (lw_V q1253 q1255 qs26 q123 q1256) hy_X1_well rfl rfl (Nat.le_of_ble_eq_true rfl) (Nat.le_of_ble_eq_true rfl) (Nat.le_of_ble_eq_true rfl) (kkI (fun r117 m117 E117 hw => ?_))
  have hw := hw E117
  exact x_iret HE hr dX1_bestManner_120 hw
def g_X1_bestManner_b109 (x0 x1 : Int) (Q : Int → Hp → Prop) (K40 : Int → Int → Int → Hp → Prop) (l2 l3 l4 : Int) (h : Hp) : Prop :=
  (i32 (l4 + 1)) ∧ (∀ y109 : Int, y109 = l4 + 1 → (K40 l2 l3 y109 h))
theorem w_X1_bestManner_109 {G : GT} {X : ET} {h0 : Hp} {x0 x1 : Int} (HE : XE G X cX1_bestManner 6 RX1 9 198 h0) (hr : XR X (some .int)) (f0 : Lay_X1 h0 x0) {Q : Int → Hp → Prop} {K40 : Int → Int → Int → Hp → Prop} (hK40 : ∀ (l2 l3 l4 : Int) (h : Hp), K40 l2 l3 l4 h → Wx G X h0 (QI Q) h 40 [some (rV x0), some (iV x1), some (iV l2), some (iV l3), some (iV l4), none] []) {l2 l3 l4 : Int} {h : Hp} (hw : g_X1_bestManner_b109 x0 x1 Q K40 l2 l3 l4 h) : Wx G X h0 (QI Q) h 109 [some (rV x0), some (iV x1), some (iV l2), some (iV l3), some (iV l4), none] [] := by
  refine Wx.start (fun EB => ?_)
  unfold g_X1_bestManner_b109 at hw
  obtain ⟨v109, hw⟩ := hw
  refine x_iincN HE (fun y109 => [some (rV x0), some (iV x1), some (iV l2), some (iV l3), some (iV y109), none]) dX1_bestManner_109 rfl v109 (Nat.le_of_ble_eq_true rfl) (fun _ => rfl) (fun y109 ey109 => ?_)
  have hw := hw y109 ey109
  refine x_goto HE 40 dX1_bestManner_112 (by decide) ?_
  exact hK40 _ _ _ _ hw
def g_X1_bestManner_b99 (x0 x1 : Int) (Q : Int → Hp → Prop) (K40 : Int → Int → Int → Hp → Prop) (l4 l5 : Int) (h : Hp) : Prop :=
  (Lay_X21 h l5) ∧ (g_X21_waits l5 x1 (fun r105 m105 => Ext h m105 → (g_X1_bestManner_b109 x0 x1 Q K40 l4 r105 l4 m105)) h)
theorem w_X1_bestManner_99 {G : GT} {X : ET} {h0 : Hp} {x0 x1 : Int} (HE : XE G X cX1_bestManner 6 RX1 9 198 h0) (hr : XR X (some .int)) (f0 : Lay_X1 h0 x0) {Q : Int → Hp → Prop} {K40 : Int → Int → Int → Hp → Prop} (hK40 : ∀ (l2 l3 l4 : Int) (h : Hp), K40 l2 l3 l4 h → Wx G X h0 (QI Q) h 40 [some (rV x0), some (iV x1), some (iV l2), some (iV l3), some (iV l4), none] []) {l4 l5 : Int} {h : Hp} (hw : g_X1_bestManner_b99 x0 x1 Q K40 l4 l5 h) : Wx G X h0 (QI Q) h 99 [some (rV x0), some (iV x1), none, none, some (iV l4), some (rV l5)] [] := by
  refine Wx.start (fun EB => ?_)
  unfold g_X1_bestManner_b99 at hw
  refine x_iload HE dX1_bestManner_99 rfl ?_
  refine x_istore_n HE 2 (lo' := [some (rV x0), some (iV x1), some (iV l4), none, some (iV l4), some (rV l5)]) dX1_bestManner_101 rfl (Nat.le_of_ble_eq_true rfl) rfl ?_
  refine x_aload HE dX1_bestManner_102 rfl ?_
  refine x_iload_n HE 1 dX1_bestManner_104 rfl rfl ?_
  obtain ⟨u105_0, hw⟩ := hw
  refine x_callV HE dX1_bestManner_105 rfl (fun l => k_X21_waits u105_0 l hw) (As := [iV x1]) (rest := []) rfl xc13 (Lay_X21.tag u105_0) (lw_V q1425 q1426 q1427 q157 q1428) hy_X21_waits rfl rfl (Nat.le_of_ble_eq_true rfl) (Nat.le_of_ble_eq_true rfl) (Nat.le_of_ble_eq_true rfl) (kkI (fun r105 m105 E105 hw => ?_))
  have hw := hw E105
  refine x_istore_n HE 3 (lo' := [some (rV x0), some (iV x1), some (iV l4), some (iV r105), some (iV l4), some (rV l5)]) dX1_bestManner_108 rfl (Nat.le_of_ble_eq_true rfl) rfl ?_
  refine Wx.mask [true, true, true, true, true, false] (lo2 := [some (rV x0), some (iV x1), some (iV l4), some (iV r105), some (iV l4), none]) rfl ?_
  exact w_X1_bestManner_109 HE hr f0 hK40 hw
def g_X1_bestManner_L40 (x0 x1 : Int) (Q : Int → Hp → Prop) (K40 : Int → Int → Int → Hp → Prop) (l2 l3 l4 : Int) (h : Hp) : Prop :=
  ((4 ≤ l4) → (g_X1_bestManner_b115 x0 x1 Q l2 h)) ∧ ((l4 < 4) → (g_X1_tries x0 (fun r47 m47 => Ext h m47 → (g_X1_mannerOf l4 30 (fun r59 m59 => Ext m47 m59 → ((Lay_X21 m59 r47) ∧ (g_X21_takesManner r47 x1 r59 (fun m62 => Ext m59 m62 → (g_X21_evening r47 (fun r67 m67 => Ext m62 m67 → (g_X21_hasIt r47 x1 (fun r74 m74 => Ext m67 m74 → (((r74 = 0) → (g_X1_bestManner_b109 x0 x1 Q K40 l2 l3 l4 m74)) ∧ ((r74 ≠ 0) → (((l2 = (-2)) → (g_X1_bestManner_b99 x0 x1 Q K40 l4 r47 m74)) ∧ ((l2 ≠ (-2)) → (g_X21_waits r47 x1 (fun r89 m89 => Ext m74 m89 → (((r89 < l3) → (g_X1_bestManner_b99 x0 x1 Q K40 l4 r47 m89)) ∧ ((l3 ≤ r89) → (g_X1_bestManner_b109 x0 x1 Q K40 l2 l3 l4 m89)))) m74)))))) m67)) m62)) m59))) m47)) h))
theorem w_X1_bestManner_40 {G : GT} {X : ET} {h0 : Hp} {x0 x1 : Int} (HE : XE G X cX1_bestManner 6 RX1 9 198 h0) (hr : XR X (some .int)) (f0 : Lay_X1 h0 x0) {Q : Int → Hp → Prop} {K40 : Int → Int → Int → Hp → Prop} (hK40 : ∀ (l2 l3 l4 : Int) (h : Hp), K40 l2 l3 l4 h → Wx G X h0 (QI Q) h 40 [some (rV x0), some (iV x1), some (iV l2), some (iV l3), some (iV l4), none] []) {l2 l3 l4 : Int} {h : Hp} (hw : g_X1_bestManner_L40 x0 x1 Q K40 l2 l3 l4 h) : Wx G X h0 (QI Q) h 40 [some (rV x0), some (iV x1), some (iV l2), some (iV l3), some (iV l4), none] [] := by
  refine Wx.start (fun EB => ?_)
  unfold g_X1_bestManner_L40 at hw
  refine x_iload HE dX1_bestManner_40 rfl ?_
  refine x_iconst HE dX1_bestManner_42 (by decide) ?_
  refine x_ic_ge HE 115 dX1_bestManner_43 (by decide) (fun c43 => ?_) (fun c43 => ?_)
  · have hw := hw.1 c43
    refine Wx.mask [true, true, true, false, false, true] (lo2 := [some (rV x0), some (iV x1), some (iV l2), none, none, none]) rfl ?_
    exact w_X1_bestManner_115 HE hr f0 hw
  · have hw := hw.2 c43
    refine x_aload_n HE 0 dX1_bestManner_46 rfl rfl ?_
    refine x_callV HE dX1_bestManner_47 rfl (fun l => k_X1_tries (f0.ext EB) l hw) (As := []) (rest := []) rfl xc11 (Lay_X1.tag (f0.ext EB)) (lw_V q1475 q1477 qs38 q123 q1478) hy_X1_tries rfl rfl (Nat.le_of_ble_eq_true rfl) (Nat.le_of_ble_eq_true rfl) (Nat.le_of_ble_eq_true rfl) (kkR (fun r47 m47 E47 hw => ?_))
    have hw := hw E47
    refine x_astore HE (lo' := [some (rV x0), some (iV x1), some (iV l2), some (iV l3), some (iV l4), some (rV r47)]) dX1_bestManner_50 (Nat.le_of_ble_eq_true rfl) rfl ?_
    refine x_aload HE dX1_bestManner_52 rfl ?_
    refine x_iload_n HE 1 dX1_bestManner_54 rfl rfl ?_
    refine x_iload HE dX1_bestManner_55 rfl ?_
    refine x_bipush HE dX1_bestManner_57 (by decide) ?_
    refine x_callS HE dX1_bestManner_59 rfl (fun l => k_X1_mannerOf  l hw) (As := [iV l4, iV 30]) (rest := [iV x1, rV r47]) rfl (lw_S q1511 q954 q123 q955) hy_X1_mannerOf.2 rfl rfl (Nat.le_of_ble_eq_true rfl) (Nat.le_of_ble_eq_true rfl) (Nat.le_of_ble_eq_true rfl) (kkR (fun r59 m59 E59 hw => ?_))
    have hw := hw E59
    obtain ⟨u62_0, hw⟩ := hw
    refine x_callV HE dX1_bestManner_62 rfl (fun l => k_X21_takesManner u62_0 l hw) (As := [iV x1, rV r59]) (rest := []) rfl xc13 (Lay_X21.tag u62_0) (lw_V q1512 q1090 q1091 q157 q1092) hy_X21_takesManner rfl rfl (Nat.le_of_ble_eq_true rfl) (Nat.le_of_ble_eq_true rfl) (Nat.le_of_ble_eq_true rfl) (kkV (fun m62 E62 hw => ?_))
    have hw := hw E62
    refine x_aload HE dX1_bestManner_65 rfl ?_
    refine x_callV HE dX1_bestManner_67 rfl (fun l => k_X21_evening (u62_0.ext E62) l hw) (As := []) (rest := []) rfl xc13 (Lay_X21.tag (u62_0.ext E62)) (lw_V q1390 q1391 q1392 q157 q1393) hy_X21_evening rfl rfl (Nat.le_of_ble_eq_true rfl) (Nat.le_of_ble_eq_true rfl) (Nat.le_of_ble_eq_true rfl) (kkR (fun r67 m67 E67 hw => ?_))
    have hw := hw E67
    refine x_pop HE dX1_bestManner_70 (fun o => o) ?_
    refine x_aload HE dX1_bestManner_71 rfl ?_
    refine x_iload_n HE 1 dX1_bestManner_73 rfl rfl ?_
    refine x_callV HE dX1_bestManner_74 rfl (fun l => k_X21_hasIt (u62_0.ext (E62.tr E67)) l hw) (As := [iV x1]) (rest := []) rfl xc13 (Lay_X21.tag (u62_0.ext (E62.tr E67))) (lw_V q1506 q1454 q1455 q157 q1456) hy_X21_hasIt rfl rfl (Nat.le_of_ble_eq_true rfl) (Nat.le_of_ble_eq_true rfl) (Nat.le_of_ble_eq_true rfl) (kkI (fun r74 m74 E74 hw => ?_))
    have hw := hw E74
    refine x_if_eq HE 109 dX1_bestManner_77 (by decide) (fun c77 => ?_) (fun c77 => ?_)
    · have hw := hw.1 c77
      refine Wx.mask [true, true, true, true, true, false] (lo2 := [some (rV x0), some (iV x1), some (iV l2), some (iV l3), some (iV l4), none]) rfl ?_
      exact w_X1_bestManner_109 HE hr f0 hK40 hw
    · have hw := hw.2 c77
      refine x_iload_n HE 2 dX1_bestManner_80 rfl rfl ?_
      refine x_bipush HE dX1_bestManner_81 (by decide) ?_
      refine x_ic_eq HE 99 dX1_bestManner_83 (by decide) (fun c83 => ?_) (fun c83 => ?_)
      · have hw := hw.1 c83
        refine Wx.mask [true, true, false, false, true, true] (lo2 := [some (rV x0), some (iV x1), none, none, some (iV l4), some (rV r47)]) rfl ?_
        exact w_X1_bestManner_99 HE hr f0 hK40 hw
      · have hw := hw.2 c83
        refine x_aload HE dX1_bestManner_86 rfl ?_
        refine x_iload_n HE 1 dX1_bestManner_88 rfl rfl ?_
        refine x_callV HE dX1_bestManner_89 rfl (fun l => k_X21_waits (u62_0.ext (E62.tr (E67.tr E74))) l hw) (As := [iV x1]) (rest := []) rfl xc13 (Lay_X21.tag (u62_0.ext (E62.tr (E67.tr E74)))) (lw_V q1425 q1426 q1427 q157 q1428) hy_X21_waits rfl rfl (Nat.le_of_ble_eq_true rfl) (Nat.le_of_ble_eq_true rfl) (Nat.le_of_ble_eq_true rfl) (kkI (fun r89 m89 E89 hw => ?_))
        have hw := hw E89
        refine x_iload_n HE 3 dX1_bestManner_92 rfl rfl ?_
        refine x_ic_lt HE 99 dX1_bestManner_93 (by decide) (fun c93 => ?_) (fun c93 => ?_)
        · have hw := hw.1 c93
          refine Wx.mask [true, true, false, false, true, true] (lo2 := [some (rV x0), some (iV x1), none, none, some (iV l4), some (rV r47)]) rfl ?_
          exact w_X1_bestManner_99 HE hr f0 hK40 hw
        · have hw := hw.2 c93
          refine x_goto HE 109 dX1_bestManner_96 (by decide) ?_
          refine Wx.mask [true, true, true, true, true, false] (lo2 := [some (rV x0), some (iV x1), some (iV l2), some (iV l3), some (iV l4), none]) rfl ?_
          exact w_X1_bestManner_109 HE hr f0 hK40 hw
theorem wl_X1_bestManner_40 {G : GT} {X : ET} {h0 : Hp} {x0 x1 : Int} (HE : XE G X cX1_bestManner 6 RX1 9 198 h0) (hr : XR X (some .int)) (f0 : Lay_X1 h0 x0) {Q : Int → Hp → Prop} {l2 l3 l4 : Int} {h : Hp} (hw : Lp3 (g_X1_bestManner_L40 x0 x1 Q) l2 l3 l4 h) : Wx G X h0 (QI Q) h 40 [some (rV x0), some (iV x1), some (iV l2), some (iV l3), some (iV l4), none] [] := by
  obtain ⟨n, hw⟩ := hw
  induction n generalizing l2 l3 l4 h with
  | zero => exact hw.elim
  | succ n ih => exact w_X1_bestManner_40 HE hr f0 (fun _ _ _ _ hk => ih hk) hw
def g_X1_bestManner (x0 x1 : Int) (Q : Int → Hp → Prop) (h : Hp) : Prop :=
  g_X1_isPerson x0 x1 (fun r2 m2 => Ext h m2 → (((r2 ≠ 0) → ((Lay_X21 m2 (hF m2 x0 6)) ∧ (((0 : Int) ≤ x1 ∧ x1 < 10) ∧ ((((hA m2 ((hF m2 x0 6) + 1) x1) = 0) → (Lp3 (g_X1_bestManner_L40 x0 x1 Q) (-2) 0 0 m2)) ∧ (((hA m2 ((hF m2 x0 6) + 1) x1) ≠ 0) → (g_X1_refused x0 5 (fun r28 m28 => Ext m2 m28 → (Q r28 m28)) m2)))))) ∧ ((r2 = 0) → (g_X1_refused x0 1 (fun r10 m10 => Ext m2 m10 → (Q r10 m10)) m2)))) h
theorem w_X1_bestManner_0 {G : GT} {X : ET} {h0 : Hp} {x0 x1 : Int} (HE : XE G X cX1_bestManner 6 RX1 9 198 h0) (hr : XR X (some .int)) (f0 : Lay_X1 h0 x0) {Q : Int → Hp → Prop} {h : Hp} (hw : g_X1_bestManner x0 x1 Q h) : Wx G X h0 (QI Q) h 0 [some (rV x0), some (iV x1), none, none, none, none] [] := by
  refine Wx.start (fun EB => ?_)
  unfold g_X1_bestManner at hw
  refine x_aload_n HE 0 dX1_bestManner_0 rfl rfl ?_
  refine x_iload_n HE 1 dX1_bestManner_1 rfl rfl ?_
  refine x_callV HE dX1_bestManner_2 rfl (fun l => k_X1_isPerson (f0.ext EB) l hw) (As := [iV x1]) (rest := []) rfl xc11 (Lay_X1.tag (f0.ext EB)) (lw_V q1269 q1271 qs27 q123 q1272) hy_X1_isPerson rfl rfl (Nat.le_of_ble_eq_true rfl) (Nat.le_of_ble_eq_true rfl) (Nat.le_of_ble_eq_true rfl) (kkI (fun r2 m2 E2 hw => ?_))
  have hw := hw E2
  refine x_if_ne HE 14 dX1_bestManner_5 (by decide) (fun c5 => ?_) (fun c5 => ?_)
  · have hw := hw.1 c5
    refine x_aload_n HE 0 dX1_bestManner_14 rfl rfl ?_
    refine x_gR HE dX1_bestManner_15 fd_X1_6 q228 (Or.inl rfl) (Lay_X1.tag (f0.ext (EB.tr E2))) rfl ?_
    obtain ⟨v18, hw⟩ := hw
    refine x_gR HE dX1_bestManner_18 fd_X21_2 q1125 (Or.inl rfl) (Lay_X21.tag v18) (Lay_X21_2 v18).1 ?_
    refine x_iload_n HE 1 dX1_bestManner_21 rfl rfl ?_
    obtain ⟨i22, hw⟩ := hw
    refine x_iald HE dX1_bestManner_22 (t := 1) (by decide) ((Lay_X21_2 v18).2.1) (ix_of ((Lay_X21_2 v18).2.2) i22) rfl ?_
    refine x_if_eq HE 32 dX1_bestManner_23 (by decide) (fun c23 => ?_) (fun c23 => ?_)
    · have hw := hw.1 c23
      refine x_bipush HE dX1_bestManner_32 (by decide) ?_
      refine x_istore_n HE 2 (lo' := [some (rV x0), some (iV x1), some (iV (-2)), none, none, none]) dX1_bestManner_34 rfl (Nat.le_of_ble_eq_true rfl) rfl ?_
      refine x_iconst HE dX1_bestManner_35 (by decide) ?_
      refine x_istore_n HE 3 (lo' := [some (rV x0), some (iV x1), some (iV (-2)), some (iV 0), none, none]) dX1_bestManner_36 rfl (Nat.le_of_ble_eq_true rfl) rfl ?_
      refine x_iconst HE dX1_bestManner_37 (by decide) ?_
      refine x_istore HE (lo' := [some (rV x0), some (iV x1), some (iV (-2)), some (iV 0), some (iV 0), none]) dX1_bestManner_38 (Nat.le_of_ble_eq_true rfl) rfl ?_
      exact wl_X1_bestManner_40 HE hr f0 hw
    · have hw := hw.2 c23
      refine x_aload_n HE 0 dX1_bestManner_26 rfl rfl ?_
      refine x_iconst HE dX1_bestManner_27 (by decide) ?_
      refine x_callV HE dX1_bestManner_28 rfl (fun l => k_X1_refused (f0.ext (EB.tr E2)) l hw) (As := [iV 5]) (rest := []) rfl xc11 (Lay_X1.tag (f0.ext (EB.tr E2))) (lw_V q279 q281 qs0 q123 q282) hy_X1_refused rfl rfl (Nat.le_of_ble_eq_true rfl) (Nat.le_of_ble_eq_true rfl) (Nat.le_of_ble_eq_true rfl) (kkI (fun r28 m28 E28 hw => ?_))
      have hw := hw E28
      exact x_iret HE hr dX1_bestManner_31 hw
  · have hw := hw.2 c5
    refine x_aload_n HE 0 dX1_bestManner_8 rfl rfl ?_
    refine x_iconst HE dX1_bestManner_9 (by decide) ?_
    refine x_callV HE dX1_bestManner_10 rfl (fun l => k_X1_refused (f0.ext (EB.tr E2)) l hw) (As := [iV 1]) (rest := []) rfl xc11 (Lay_X1.tag (f0.ext (EB.tr E2))) (lw_V q279 q281 qs0 q123 q282) hy_X1_refused rfl rfl (Nat.le_of_ble_eq_true rfl) (Nat.le_of_ble_eq_true rfl) (Nat.le_of_ble_eq_true rfl) (kkI (fun r10 m10 E10 hw => ?_))
    have hw := hw E10
    exact x_iret HE hr dX1_bestManner_13 hw
theorem k_X1_bestManner {G : GT} {x0 x1 : Int} {Q : Int → Hp → Prop} {h : Hp} (f0 : Lay_X1 h x0) (l : Launch) (hw : g_X1_bestManner x0 x1 Q h) : XM G l yX1_bestManner cX1_bestManner 6 (some .int) 9 198 [rV x0, iV x1] (QI Q) h :=
  XM.of (by decide) (Nat.le_of_ble_eq_true rfl) (fun X HE hr hn => w_X1_bestManner_0 HE hr f0 hw)
def g_X1_refusesCut_b41 (x0 : Int) (Q : Int → Hp → Prop) (s0 : Int) (h : Hp) : Prop :=
  Q s0 h
theorem w_X1_refusesCut_41 {G : GT} {X : ET} {h0 : Hp} {x0 : Int} (HE : XE G X cX1_refusesCut 1 RX1 1 20 h0) (hr : XR X (some .int)) (f0 : Lay_X1 h0 x0) {Q : Int → Hp → Prop} {s0 : Int} {h : Hp} (hw : g_X1_refusesCut_b41 x0 Q s0 h) : Wx G X h0 (QI Q) h 41 [some (rV x0)] [iV s0] := by
  refine Wx.start (fun EB => ?_)
  unfold g_X1_refusesCut_b41 at hw
  exact x_iret HE hr dX1_refusesCut_41 hw
def g_X1_refusesCut_b36 (x0 : Int) (Q : Int → Hp → Prop) (h : Hp) : Prop :=
  g_X1_refusesCut_b41 x0 Q 5 h
theorem w_X1_refusesCut_36 {G : GT} {X : ET} {h0 : Hp} {x0 : Int} (HE : XE G X cX1_refusesCut 1 RX1 1 20 h0) (hr : XR X (some .int)) (f0 : Lay_X1 h0 x0) {Q : Int → Hp → Prop} {h : Hp} (hw : g_X1_refusesCut_b36 x0 Q  h) : Wx G X h0 (QI Q) h 36 [some (rV x0)] [] := by
  refine Wx.start (fun EB => ?_)
  unfold g_X1_refusesCut_b36 at hw
  refine x_iconst HE dX1_refusesCut_36 (by decide) ?_
  refine x_goto HE 41 dX1_refusesCut_37 (by decide) ?_
  exact w_X1_refusesCut_41 HE hr f0 hw
def g_X1_refusesCut (x0 : Int) (Q : Int → Hp → Prop) (h : Hp) : Prop :=
  ((0 < (hF h x0 5)) → ((Lay_X7 h (hF h x0 5)) ∧ (g_J2_size ((hF h x0 5) + 2) (fun r18 m18 => Ext h m18 → (((r18 < 2) → (g_X1_refusesCut_b36 x0 Q m18)) ∧ ((2 ≤ r18) → ((Lay_X7 m18 (hF m18 x0 5)) ∧ (((2 ≤ (hF m18 (hF m18 x0 5) 0)) → (g_X1_refusesCut_b41 x0 Q 0 m18)) ∧ (((hF m18 (hF m18 x0 5) 0) < 2) → (g_X1_refusesCut_b36 x0 Q m18))))))) h))) ∧ (((hF h x0 5) = 0) → (g_X1_refusesCut_b41 x0 Q 1 h))
theorem w_X1_refusesCut_0 {G : GT} {X : ET} {h0 : Hp} {x0 : Int} (HE : XE G X cX1_refusesCut 1 RX1 1 20 h0) (hr : XR X (some .int)) (f0 : Lay_X1 h0 x0) {Q : Int → Hp → Prop} {h : Hp} (hw : g_X1_refusesCut x0 Q h) : Wx G X h0 (QI Q) h 0 [some (rV x0)] [] := by
  refine Wx.start (fun EB => ?_)
  unfold g_X1_refusesCut at hw
  refine x_aload_n HE 0 dX1_refusesCut_0 rfl rfl ?_
  refine x_gR HE dX1_refusesCut_1 fd_X1_5 q227 (Or.inl rfl) (Lay_X1.tag (f0.ext EB)) rfl ?_
  refine x_ifnonnull HE 11 dX1_refusesCut_4 (by decide) (fun c4 => ?_) (fun c4 => ?_)
  · have hw := hw.1 c4
    refine x_aload_n HE 0 dX1_refusesCut_11 rfl rfl ?_
    refine x_gR HE dX1_refusesCut_12 fd_X1_5 q227 (Or.inl rfl) (Lay_X1.tag (f0.ext EB)) rfl ?_
    obtain ⟨v15, hw⟩ := hw
    refine x_gR HE dX1_refusesCut_15 fd_X7_4 q326 (Or.inl rfl) (Lay_X7.tag v15) (Lay_X7_4 v15).1 ?_
    refine x_callV HE dX1_refusesCut_18 rfl (fun l => k_J2_size ((Lay_X7_4 v15).2) l hw) (As := []) (rest := []) rfl xc32 ((Lay_X7_4 v15).2) (lw_V q1252 q708 q709 q128 q710) hy_J2_size rfl rfl (Nat.le_of_ble_eq_true rfl) (Nat.le_of_ble_eq_true rfl) (Nat.le_of_ble_eq_true rfl) (kkI (fun r18 m18 E18 hw => ?_))
    have hw := hw E18
    refine x_iconst HE dX1_refusesCut_21 (by decide) ?_
    refine x_ic_lt HE 36 dX1_refusesCut_22 (by decide) (fun c22 => ?_) (fun c22 => ?_)
    · have hw := hw.1 c22
      exact w_X1_refusesCut_36 HE hr f0 hw
    · have hw := hw.2 c22
      refine x_aload_n HE 0 dX1_refusesCut_25 rfl rfl ?_
      refine x_gR HE dX1_refusesCut_26 fd_X1_5 q227 (Or.inl rfl) (Lay_X1.tag (f0.ext (EB.tr E18))) rfl ?_
      obtain ⟨v29, hw⟩ := hw
      refine x_gI HE dX1_refusesCut_29 fd_X7_0 q314 (Or.inl rfl) (Lay_X7.tag v29) rfl ?_
      refine x_iconst HE dX1_refusesCut_32 (by decide) ?_
      refine x_ic_ge HE 40 dX1_refusesCut_33 (by decide) (fun c33 => ?_) (fun c33 => ?_)
      · have hw := hw.1 c33
        refine x_iconst HE dX1_refusesCut_40 (by decide) ?_
        exact w_X1_refusesCut_41 HE hr f0 hw
      · have hw := hw.2 c33
        exact w_X1_refusesCut_36 HE hr f0 hw
  · have hw := hw.2 c4
    refine x_iconst HE dX1_refusesCut_7 (by decide) ?_
    refine x_goto HE 41 dX1_refusesCut_8 (by decide) ?_
    exact w_X1_refusesCut_41 HE hr f0 hw
theorem k_X1_refusesCut {G : GT} {x0 : Int} {Q : Int → Hp → Prop} {h : Hp} (f0 : Lay_X1 h x0) (l : Launch) (hw : g_X1_refusesCut x0 Q h) : XM G l yX1_refusesCut cX1_refusesCut 1 (some .int) 1 20 [rV x0] (QI Q) h :=
  XM.of (by decide) (Nat.le_of_ble_eq_true rfl) (fun X HE hr hn => w_X1_refusesCut_0 HE hr f0 hw)
def g_X1_cutAt (x0 x1 : Int) (Q : Int → Hp → Prop) (h : Hp) : Prop :=
  g_X1_tries x0 (fun r1 m1 => Ext h m1 → ((Lay_X21 m1 r1) ∧ (∀ m11 : Hp, m11 = setA m1 (r1 + 16) 0 0 → (∀ m18 : Hp, m18 = setA m11 (r1 + 17) 0 x1 → ((i32 (x1 + 1)) ∧ (∀ m27 : Hp, m27 = setA m18 (r1 + 16) 1 (x1 + 1) → ((Lay_X7 m27 (hF m27 x0 5)) ∧ ((i32 ((hF m27 (hF m27 x0 5) 0) - 1)) ∧ (∀ m42 : Hp, m42 = setA m27 (r1 + 17) 1 ((hF m27 (hF m27 x0 5) 0) - 1) → (g_X21_evening r1 (fun r44 m44 => Ext m42 m44 → (Q r44 m44)) m42)))))))))) h
theorem w_X1_cutAt_0 {G : GT} {X : ET} {h0 : Hp} {x0 x1 : Int} (HE : XE G X cX1_cutAt 3 RX1 9 198 h0) (hr : XR X (some (.object "NextAtBar$Ba\x72"))) (f0 : Lay_X1 h0 x0) {Q : Int → Hp → Prop} {h : Hp} (hw : g_X1_cutAt x0 x1 Q h) : Wx G X h0 (QR Q) h 0 [some (rV x0), some (iV x1), none] [] := by
  refine Wx.start (fun EB => ?_)
  unfold g_X1_cutAt at hw
  refine x_aload_n HE 0 dX1_cutAt_0 rfl rfl ?_
  refine x_callV HE dX1_cutAt_1 rfl (fun l => k_X1_tries (f0.ext EB) l hw) (As := []) (rest := []) rfl xc11 (Lay_X1.tag (f0.ext EB)) (lw_V q1475 q1477 qs38 q123 q1478) hy_X1_tries rfl rfl (Nat.le_of_ble_eq_true rfl) (Nat.le_of_ble_eq_true rfl) (Nat.le_of_ble_eq_true rfl) (kkR (fun r1 m1 E1 hw => ?_))
  have hw := hw E1
  refine x_astore_n HE 2 (lo' := [some (rV x0), some (iV x1), some (rV r1)]) dX1_cutAt_4 rfl (Nat.le_of_ble_eq_true rfl) rfl ?_
  refine x_aload_n HE 2 dX1_cutAt_5 rfl rfl ?_
  obtain ⟨v6, hw⟩ := hw
  refine x_gR HE dX1_cutAt_6 fd_X21_17 q1160 (Or.inl rfl) (Lay_X21.tag v6) (Lay_X21_17 v6).1 ?_
  refine x_iconst HE dX1_cutAt_9 (by decide) ?_
  refine x_iconst HE dX1_cutAt_10 (by decide) ?_
  refine x_iast HE dX1_cutAt_11 ((Lay_X21_17 v6).2.1) (ix_of ((Lay_X21_17 v6).2.2) (by decide)) (fun m11 em11 E11 => ?_)
  have hw := hw m11 em11
  refine x_aload_n HE 2 dX1_cutAt_12 rfl rfl ?_
  refine x_gR HE dX1_cutAt_13 fd_X21_18 q1162 (Or.inl rfl) (Lay_X21.tag (v6.ext E11)) (Lay_X21_18 (v6.ext E11)).1 ?_
  refine x_iconst HE dX1_cutAt_16 (by decide) ?_
  refine x_iload_n HE 1 dX1_cutAt_17 rfl rfl ?_
  refine x_iast HE dX1_cutAt_18 ((Lay_X21_18 (v6.ext E11)).2.1) (ix_of ((Lay_X21_18 (v6.ext E11)).2.2) (by decide)) (fun m18 em18 E18 => ?_)
  have hw := hw m18 em18
  refine x_aload_n HE 2 dX1_cutAt_19 rfl rfl ?_
  refine x_gR HE dX1_cutAt_20 fd_X21_17 q1160 (Or.inl rfl) (Lay_X21.tag (v6.ext (E11.tr E18))) (Lay_X21_17 (v6.ext (E11.tr E18))).1 ?_
  refine x_iconst HE dX1_cutAt_23 (by decide) ?_
  refine x_iload_n HE 1 dX1_cutAt_24 rfl rfl ?_
  refine x_iconst HE dX1_cutAt_25 (by decide) ?_
  obtain ⟨v26, hw⟩ := hw
  refine x_iadd HE dX1_cutAt_26 v26 ?_
  refine x_iast HE dX1_cutAt_27 ((Lay_X21_17 (v6.ext (E11.tr E18))).2.1) (ix_of ((Lay_X21_17 (v6.ext (E11.tr E18))).2.2) (by decide)) (fun m27 em27 E27 => ?_)
  have hw := hw m27 em27
  refine x_aload_n HE 2 dX1_cutAt_28 rfl rfl ?_
  refine x_gR HE dX1_cutAt_29 fd_X21_18 q1162 (Or.inl rfl) (Lay_X21.tag (v6.ext (E11.tr (E18.tr E27)))) (Lay_X21_18 (v6.ext (E11.tr (E18.tr E27)))).1 ?_
  refine x_iconst HE dX1_cutAt_32 (by decide) ?_
  refine x_aload_n HE 0 dX1_cutAt_33 rfl rfl ?_
  refine x_gR HE dX1_cutAt_34 fd_X1_5 q227 (Or.inl rfl) (Lay_X1.tag (f0.ext (EB.tr (E1.tr (E11.tr (E18.tr E27)))))) rfl ?_
  obtain ⟨v37, hw⟩ := hw
  refine x_gI HE dX1_cutAt_37 fd_X7_0 q314 (Or.inl rfl) (Lay_X7.tag v37) rfl ?_
  refine x_iconst HE dX1_cutAt_40 (by decide) ?_
  obtain ⟨v41, hw⟩ := hw
  refine x_isub HE dX1_cutAt_41 v41 ?_
  refine x_iast HE dX1_cutAt_42 ((Lay_X21_18 (v6.ext (E11.tr (E18.tr E27)))).2.1) (ix_of ((Lay_X21_18 (v6.ext (E11.tr (E18.tr E27)))).2.2) (by decide)) (fun m42 em42 E42 => ?_)
  have hw := hw m42 em42
  refine x_aload_n HE 2 dX1_cutAt_43 rfl rfl ?_
  refine x_callV HE dX1_cutAt_44 rfl (fun l => k_X21_evening (v6.ext (E11.tr (E18.tr (E27.tr E42)))) l hw) (As := []) (rest := []) rfl xc13 (Lay_X21.tag (v6.ext (E11.tr (E18.tr (E27.tr E42))))) (lw_V q1390 q1391 q1392 q157 q1393) hy_X21_evening rfl rfl (Nat.le_of_ble_eq_true rfl) (Nat.le_of_ble_eq_true rfl) (Nat.le_of_ble_eq_true rfl) (kkR (fun r44 m44 E44 hw => ?_))
  have hw := hw E44
  exact x_aret HE hr (Or.inl ⟨_, rfl⟩) dX1_cutAt_47 hw
theorem k_X1_cutAt {G : GT} {x0 x1 : Int} {Q : Int → Hp → Prop} {h : Hp} (f0 : Lay_X1 h x0) (l : Launch) (hw : g_X1_cutAt x0 x1 Q h) : XM G l yX1_cutAt cX1_cutAt 3 (some (.object "NextAtBar$Ba\x72")) 9 198 [rV x0, iV x1] (QR Q) h :=
  XM.of (by decide) (Nat.le_of_ble_eq_true rfl) (fun X HE hr hn => w_X1_cutAt_0 HE hr f0 hw)
def g_X1_bestCut_b54 (x0 : Int) (Q : Int → Hp → Prop) (l1 : Int) (h : Hp) : Prop :=
  Q l1 h
theorem w_X1_bestCut_54 {G : GT} {X : ET} {h0 : Hp} {x0 : Int} (HE : XE G X cX1_bestCut 5 RX1 10 220 h0) (hr : XR X (some .int)) (f0 : Lay_X1 h0 x0) {Q : Int → Hp → Prop} {l1 : Int} {h : Hp} (hw : g_X1_bestCut_b54 x0 Q l1 h) : Wx G X h0 (QI Q) h 54 [some (rV x0), some (iV l1), none, none, none] [] := by
  refine Wx.start (fun EB => ?_)
  unfold g_X1_bestCut_b54 at hw
  refine x_iload_n HE 1 dX1_bestCut_54 rfl rfl ?_
  exact x_iret HE hr dX1_bestCut_55 hw
def g_X1_bestCut_b48 (x0 : Int) (Q : Int → Hp → Prop) (K6 : Int → Int → Int → Hp → Prop) (l1 l2 l3 : Int) (h : Hp) : Prop :=
  (i32 (l3 + 1)) ∧ (∀ y48 : Int, y48 = l3 + 1 → (K6 l1 l2 y48 h))
theorem w_X1_bestCut_48 {G : GT} {X : ET} {h0 : Hp} {x0 : Int} (HE : XE G X cX1_bestCut 5 RX1 10 220 h0) (hr : XR X (some .int)) (f0 : Lay_X1 h0 x0) {Q : Int → Hp → Prop} {K6 : Int → Int → Int → Hp → Prop} (hK6 : ∀ (l1 l2 l3 : Int) (h : Hp), K6 l1 l2 l3 h → Wx G X h0 (QI Q) h 6 [some (rV x0), some (iV l1), some (iV l2), some (iV l3), none] []) {l1 l2 l3 : Int} {h : Hp} (hw : g_X1_bestCut_b48 x0 Q K6 l1 l2 l3 h) : Wx G X h0 (QI Q) h 48 [some (rV x0), some (iV l1), some (iV l2), some (iV l3), none] [] := by
  refine Wx.start (fun EB => ?_)
  unfold g_X1_bestCut_b48 at hw
  obtain ⟨v48, hw⟩ := hw
  refine x_iincN HE (fun y48 => [some (rV x0), some (iV l1), some (iV l2), some (iV y48), none]) dX1_bestCut_48 rfl v48 (Nat.le_of_ble_eq_true rfl) (fun _ => rfl) (fun y48 ey48 => ?_)
  have hw := hw y48 ey48
  refine x_goto HE 6 dX1_bestCut_51 (by decide) ?_
  exact hK6 _ _ _ _ hw
def g_X1_bestCut_b43 (x0 : Int) (Q : Int → Hp → Prop) (K6 : Int → Int → Int → Hp → Prop) (l3 l4 : Int) (h : Hp) : Prop :=
  g_X1_bestCut_b48 x0 Q K6 l3 l4 l3 h
theorem w_X1_bestCut_43 {G : GT} {X : ET} {h0 : Hp} {x0 : Int} (HE : XE G X cX1_bestCut 5 RX1 10 220 h0) (hr : XR X (some .int)) (f0 : Lay_X1 h0 x0) {Q : Int → Hp → Prop} {K6 : Int → Int → Int → Hp → Prop} (hK6 : ∀ (l1 l2 l3 : Int) (h : Hp), K6 l1 l2 l3 h → Wx G X h0 (QI Q) h 6 [some (rV x0), some (iV l1), some (iV l2), some (iV l3), none] []) {l3 l4 : Int} {h : Hp} (hw : g_X1_bestCut_b43 x0 Q K6 l3 l4 h) : Wx G X h0 (QI Q) h 43 [some (rV x0), none, none, some (iV l3), some (iV l4)] [] := by
  refine Wx.start (fun EB => ?_)
  unfold g_X1_bestCut_b43 at hw
  refine x_iload_n HE 3 dX1_bestCut_43 rfl rfl ?_
  refine x_istore_n HE 1 (lo' := [some (rV x0), some (iV l3), none, some (iV l3), some (iV l4)]) dX1_bestCut_44 rfl (Nat.le_of_ble_eq_true rfl) rfl ?_
  refine x_iload HE dX1_bestCut_45 rfl ?_
  refine x_istore_n HE 2 (lo' := [some (rV x0), some (iV l3), some (iV l4), some (iV l3), some (iV l4)]) dX1_bestCut_47 rfl (Nat.le_of_ble_eq_true rfl) rfl ?_
  refine Wx.mask [true, true, true, true, false] (lo2 := [some (rV x0), some (iV l3), some (iV l4), some (iV l3), none]) rfl ?_
  exact w_X1_bestCut_48 HE hr f0 hK6 hw
def g_X1_bestCut_L6 (x0 : Int) (Q : Int → Hp → Prop) (K6 : Int → Int → Int → Hp → Prop) (l1 l2 l3 : Int) (h : Hp) : Prop :=
  (i32 (l3 + 1)) ∧ ((Lay_X7 h (hF h x0 5)) ∧ ((((hF h (hF h x0 5) 0) ≤ (l3 + 1)) → (g_X1_bestCut_b54 x0 Q l1 h)) ∧ (((l3 + 1) < (hF h (hF h x0 5) 0)) → (g_X1_cutAt x0 l3 (fun r21 m21 => Ext h m21 → ((Lay_X21 m21 r21) ∧ (g_X21_sum r21 3 (fun r25 m25 => Ext m21 m25 → (((l3 ≤ 0) → (g_X1_bestCut_b43 x0 Q K6 l3 r25 m25)) ∧ ((0 < l3) → (((r25 < l2) → (g_X1_bestCut_b43 x0 Q K6 l3 r25 m25)) ∧ ((l2 ≤ r25) → (g_X1_bestCut_b48 x0 Q K6 l1 l2 l3 m25)))))) m21))) h))))
theorem w_X1_bestCut_6 {G : GT} {X : ET} {h0 : Hp} {x0 : Int} (HE : XE G X cX1_bestCut 5 RX1 10 220 h0) (hr : XR X (some .int)) (f0 : Lay_X1 h0 x0) {Q : Int → Hp → Prop} {K6 : Int → Int → Int → Hp → Prop} (hK6 : ∀ (l1 l2 l3 : Int) (h : Hp), K6 l1 l2 l3 h → Wx G X h0 (QI Q) h 6 [some (rV x0), some (iV l1), some (iV l2), some (iV l3), none] []) {l1 l2 l3 : Int} {h : Hp} (hw : g_X1_bestCut_L6 x0 Q K6 l1 l2 l3 h) : Wx G X h0 (QI Q) h 6 [some (rV x0), some (iV l1), some (iV l2), some (iV l3), none] [] := by
  refine Wx.start (fun EB => ?_)
  unfold g_X1_bestCut_L6 at hw
  refine x_iload_n HE 3 dX1_bestCut_6 rfl rfl ?_
  refine x_iconst HE dX1_bestCut_7 (by decide) ?_
  obtain ⟨v8, hw⟩ := hw
  refine x_iadd HE dX1_bestCut_8 v8 ?_
  refine x_aload_n HE 0 dX1_bestCut_9 rfl rfl ?_
  refine x_gR HE dX1_bestCut_10 fd_X1_5 q227 (Or.inl rfl) (Lay_X1.tag (f0.ext EB)) rfl ?_
  obtain ⟨v13, hw⟩ := hw
  refine x_gI HE dX1_bestCut_13 fd_X7_0 q314 (Or.inl rfl) (Lay_X7.tag v13) rfl ?_
  refine x_ic_ge HE 54 dX1_bestCut_16 (by decide) (fun c16 => ?_) (fun c16 => ?_)
  · have hw := hw.1 c16
    refine Wx.mask [true, true, false, false, true] (lo2 := [some (rV x0), some (iV l1), none, none, none]) rfl ?_
    exact w_X1_bestCut_54 HE hr f0 hw
  · have hw := hw.2 c16
    refine x_aload_n HE 0 dX1_bestCut_19 rfl rfl ?_
    refine x_iload_n HE 3 dX1_bestCut_20 rfl rfl ?_
    refine x_callV HE dX1_bestCut_21 rfl (fun l => k_X1_cutAt (f0.ext EB) l hw) (As := [iV l3]) (rest := []) rfl xc11 (Lay_X1.tag (f0.ext EB)) (lw_V q1525 q1527 qs42 q123 q1528) hy_X1_cutAt rfl rfl (Nat.le_of_ble_eq_true rfl) (Nat.le_of_ble_eq_true rfl) (Nat.le_of_ble_eq_true rfl) (kkR (fun r21 m21 E21 hw => ?_))
    have hw := hw E21
    refine x_iconst HE dX1_bestCut_24 (by decide) ?_
    obtain ⟨u25_0, hw⟩ := hw
    refine x_callV HE dX1_bestCut_25 rfl (fun l => k_X21_sum u25_0 l hw) (As := [iV 3]) (rest := []) rfl xc13 (Lay_X21.tag u25_0) (lw_V q1449 q1450 q1451 q157 q1452) hy_X21_sum rfl rfl (Nat.le_of_ble_eq_true rfl) (Nat.le_of_ble_eq_true rfl) (Nat.le_of_ble_eq_true rfl) (kkI (fun r25 m25 E25 hw => ?_))
    have hw := hw E25
    refine x_istore HE (lo' := [some (rV x0), some (iV l1), some (iV l2), some (iV l3), some (iV r25)]) dX1_bestCut_28 (Nat.le_of_ble_eq_true rfl) rfl ?_
    refine x_iload_n HE 3 dX1_bestCut_30 rfl rfl ?_
    refine x_if_le HE 43 dX1_bestCut_31 (by decide) (fun c31 => ?_) (fun c31 => ?_)
    · have hw := hw.1 c31
      refine Wx.mask [true, false, false, true, true] (lo2 := [some (rV x0), none, none, some (iV l3), some (iV r25)]) rfl ?_
      exact w_X1_bestCut_43 HE hr f0 hK6 hw
    · have hw := hw.2 c31
      refine x_iload HE dX1_bestCut_34 rfl ?_
      refine x_iload_n HE 2 dX1_bestCut_36 rfl rfl ?_
      refine x_ic_lt HE 43 dX1_bestCut_37 (by decide) (fun c37 => ?_) (fun c37 => ?_)
      · have hw := hw.1 c37
        refine Wx.mask [true, false, false, true, true] (lo2 := [some (rV x0), none, none, some (iV l3), some (iV r25)]) rfl ?_
        exact w_X1_bestCut_43 HE hr f0 hK6 hw
      · have hw := hw.2 c37
        refine x_goto HE 48 dX1_bestCut_40 (by decide) ?_
        refine Wx.mask [true, true, true, true, false] (lo2 := [some (rV x0), some (iV l1), some (iV l2), some (iV l3), none]) rfl ?_
        exact w_X1_bestCut_48 HE hr f0 hK6 hw
theorem wl_X1_bestCut_6 {G : GT} {X : ET} {h0 : Hp} {x0 : Int} (HE : XE G X cX1_bestCut 5 RX1 10 220 h0) (hr : XR X (some .int)) (f0 : Lay_X1 h0 x0) {Q : Int → Hp → Prop} {l1 l2 l3 : Int} {h : Hp} (hw : Lp3 (g_X1_bestCut_L6 x0 Q) l1 l2 l3 h) : Wx G X h0 (QI Q) h 6 [some (rV x0), some (iV l1), some (iV l2), some (iV l3), none] [] := by
  obtain ⟨n, hw⟩ := hw
  induction n generalizing l1 l2 l3 h with
  | zero => exact hw.elim
  | succ n ih => exact w_X1_bestCut_6 HE hr f0 (fun _ _ _ _ hk => ih hk) hw
def g_X1_bestCut (x0 : Int) (Q : Int → Hp → Prop) (h : Hp) : Prop :=
  Lp3 (g_X1_bestCut_L6 x0 Q) 0 0 0 h
theorem w_X1_bestCut_0 {G : GT} {X : ET} {h0 : Hp} {x0 : Int} (HE : XE G X cX1_bestCut 5 RX1 10 220 h0) (hr : XR X (some .int)) (f0 : Lay_X1 h0 x0) {Q : Int → Hp → Prop} {h : Hp} (hw : g_X1_bestCut x0 Q h) : Wx G X h0 (QI Q) h 0 [some (rV x0), none, none, none, none] [] := by
  refine Wx.start (fun EB => ?_)
  unfold g_X1_bestCut at hw
  refine x_iconst HE dX1_bestCut_0 (by decide) ?_
  refine x_istore_n HE 1 (lo' := [some (rV x0), some (iV 0), none, none, none]) dX1_bestCut_1 rfl (Nat.le_of_ble_eq_true rfl) rfl ?_
  refine x_iconst HE dX1_bestCut_2 (by decide) ?_
  refine x_istore_n HE 2 (lo' := [some (rV x0), some (iV 0), some (iV 0), none, none]) dX1_bestCut_3 rfl (Nat.le_of_ble_eq_true rfl) rfl ?_
  refine x_iconst HE dX1_bestCut_4 (by decide) ?_
  refine x_istore_n HE 3 (lo' := [some (rV x0), some (iV 0), some (iV 0), some (iV 0), none]) dX1_bestCut_5 rfl (Nat.le_of_ble_eq_true rfl) rfl ?_
  exact wl_X1_bestCut_6 HE hr f0 hw
theorem k_X1_bestCut {G : GT} {x0 : Int} {Q : Int → Hp → Prop} {h : Hp} (f0 : Lay_X1 h x0) (l : Launch) (hw : g_X1_bestCut x0 Q h) : XM G l yX1_bestCut cX1_bestCut 5 (some .int) 10 220 [rV x0] (QI Q) h :=
  XM.of (by decide) (Nat.le_of_ble_eq_true rfl) (fun X HE hr hn => w_X1_bestCut_0 HE hr f0 hw)
def g_X1_cut_b25 (x0 : Int) (Q : Int → Hp → Prop) (s0 : Int) (h : Hp) : Prop :=
  Q s0 h
theorem w_X1_cut_25 {G : GT} {X : ET} {h0 : Hp} {x0 : Int} (HE : XE G X cX1_cut 2 RX1 11 244 h0) (hr : XR X (some .int)) (f0 : Lay_X1 h0 x0) {Q : Int → Hp → Prop} {s0 : Int} {h : Hp} (hw : g_X1_cut_b25 x0 Q s0 h) : Wx G X h0 (QI Q) h 25 [some (rV x0), none] [iV s0] := by
  refine Wx.start (fun EB => ?_)
  unfold g_X1_cut_b25 at hw
  exact x_iret HE hr dX1_cut_25 hw
def g_X1_cut (x0 : Int) (Q : Int → Hp → Prop) (h : Hp) : Prop :=
  g_X1_refusesCut x0 (fun r1 m1 => Ext h m1 → (((r1 ≤ 0) → (g_X1_bestCut x0 (fun r19 m19 => Ext m1 m19 → (g_X1_well x0 r19 (fun r22 m22 => Ext m19 m22 → (g_X1_cut_b25 x0 Q r22 m22)) m19)) m1)) ∧ ((0 < r1) → (g_X1_refused x0 r1 (fun r11 m11 => Ext m1 m11 → (g_X1_cut_b25 x0 Q r11 m11)) m1)))) h
theorem w_X1_cut_0 {G : GT} {X : ET} {h0 : Hp} {x0 : Int} (HE : XE G X cX1_cut 2 RX1 11 244 h0) (hr : XR X (some .int)) (f0 : Lay_X1 h0 x0) {Q : Int → Hp → Prop} {h : Hp} (hw : g_X1_cut x0 Q h) : Wx G X h0 (QI Q) h 0 [some (rV x0), none] [] := by
  refine Wx.start (fun EB => ?_)
  unfold g_X1_cut at hw
  refine x_aload_n HE 0 dX1_cut_0 rfl rfl ?_
  refine x_callV HE dX1_cut_1 rfl (fun l => k_X1_refusesCut (f0.ext EB) l hw) (As := []) (rest := []) rfl xc11 (Lay_X1.tag (f0.ext EB)) (lw_V q1517 q1519 qs40 q123 q1520) hy_X1_refusesCut rfl rfl (Nat.le_of_ble_eq_true rfl) (Nat.le_of_ble_eq_true rfl) (Nat.le_of_ble_eq_true rfl) (kkI (fun r1 m1 E1 hw => ?_))
  have hw := hw E1
  refine x_istore_n HE 1 (lo' := [some (rV x0), some (iV r1)]) dX1_cut_4 rfl (Nat.le_of_ble_eq_true rfl) rfl ?_
  refine x_iload_n HE 1 dX1_cut_5 rfl rfl ?_
  refine x_if_le HE 17 dX1_cut_6 (by decide) (fun c6 => ?_) (fun c6 => ?_)
  · have hw := hw.1 c6
    refine x_aload_n HE 0 dX1_cut_17 rfl rfl ?_
    refine x_aload_n HE 0 dX1_cut_18 rfl rfl ?_
    refine x_callV HE dX1_cut_19 rfl (fun l => k_X1_bestCut (f0.ext (EB.tr E1)) l hw) (As := []) (rest := [rV x0]) rfl xc11 (Lay_X1.tag (f0.ext (EB.tr E1))) (lw_V q1521 q1523 qs41 q123 q1524) hy_X1_bestCut rfl rfl (Nat.le_of_ble_eq_true rfl) (Nat.le_of_ble_eq_true rfl) (Nat.le_of_ble_eq_true rfl) (kkI (fun r19 m19 E19 hw => ?_))
    have hw := hw E19
    refine x_callV HE dX1_cut_22 rfl (fun l => k_X1_well (f0.ext (EB.tr (E1.tr E19))) l hw) (As := [iV r19]) (rest := []) rfl xc11 (Lay_X1.tag (f0.ext (EB.tr (E1.tr E19)))) (lw_V q1253 q1255 qs26 q123 q1256) hy_X1_well rfl rfl (Nat.le_of_ble_eq_true rfl) (Nat.le_of_ble_eq_true rfl) (Nat.le_of_ble_eq_true rfl) (kkI (fun r22 m22 E22 hw => ?_))
    have hw := hw E22
    refine Wx.mask [true, false] (lo2 := [some (rV x0), none]) rfl ?_
    exact w_X1_cut_25 HE hr f0 hw
  · have hw := hw.2 c6
    refine x_aload_n HE 0 dX1_cut_9 rfl rfl ?_
    refine x_iload_n HE 1 dX1_cut_10 rfl rfl ?_
    refine x_callV HE dX1_cut_11 rfl (fun l => k_X1_refused (f0.ext (EB.tr E1)) l hw) (As := [iV r1]) (rest := []) rfl xc11 (Lay_X1.tag (f0.ext (EB.tr E1))) (lw_V q279 q281 qs0 q123 q282) hy_X1_refused rfl rfl (Nat.le_of_ble_eq_true rfl) (Nat.le_of_ble_eq_true rfl) (Nat.le_of_ble_eq_true rfl) (kkI (fun r11 m11 E11 hw => ?_))
    have hw := hw E11
    refine x_goto HE 25 dX1_cut_14 (by decide) ?_
    refine Wx.mask [true, false] (lo2 := [some (rV x0), none]) rfl ?_
    exact w_X1_cut_25 HE hr f0 hw
theorem k_X1_cut {G : GT} {x0 : Int} {Q : Int → Hp → Prop} {h : Hp} (f0 : Lay_X1 h x0) (l : Launch) (hw : g_X1_cut x0 Q h) : XM G l yX1_cut cX1_cut 2 (some .int) 11 244 [rV x0] (QI Q) h :=
  XM.of (by decide) (Nat.le_of_ble_eq_true rfl) (fun X HE hr hn => w_X1_cut_0 HE hr f0 hw)
def g_X1_cutWaits_b33 (x0 : Int) (Q : Int → Hp → Prop) (s0 : Int) (h : Hp) : Prop :=
  Q s0 h
theorem w_X1_cutWaits_33 {G : GT} {X : ET} {h0 : Hp} {x0 : Int} (HE : XE G X cX1_cutWaits 2 RX1 11 244 h0) (hr : XR X (some .int)) (f0 : Lay_X1 h0 x0) {Q : Int → Hp → Prop} {s0 : Int} {h : Hp} (hw : g_X1_cutWaits_b33 x0 Q s0 h) : Wx G X h0 (QI Q) h 33 [some (rV x0), none] [iV s0] := by
  refine Wx.start (fun EB => ?_)
  unfold g_X1_cutWaits_b33 at hw
  exact x_iret HE hr dX1_cutWaits_33 hw
def g_X1_cutWaits (x0 : Int) (Q : Int → Hp → Prop) (h : Hp) : Prop :=
  g_X1_refusesCut x0 (fun r1 m1 => Ext h m1 → (((r1 ≤ 0) → (g_X1_bestCut x0 (fun r20 m20 => Ext m1 m20 → (g_X1_cutAt x0 r20 (fun r23 m23 => Ext m20 m23 → ((Lay_X21 m23 r23) ∧ (g_X21_sum r23 3 (fun r27 m27 => Ext m23 m27 → (g_X1_well x0 r27 (fun r30 m30 => Ext m27 m30 → (g_X1_cutWaits_b33 x0 Q r30 m30)) m27)) m23))) m20)) m1)) ∧ ((0 < r1) → (g_X1_refused x0 r1 (fun r11 m11 => Ext m1 m11 → (g_X1_cutWaits_b33 x0 Q r11 m11)) m1)))) h
theorem w_X1_cutWaits_0 {G : GT} {X : ET} {h0 : Hp} {x0 : Int} (HE : XE G X cX1_cutWaits 2 RX1 11 244 h0) (hr : XR X (some .int)) (f0 : Lay_X1 h0 x0) {Q : Int → Hp → Prop} {h : Hp} (hw : g_X1_cutWaits x0 Q h) : Wx G X h0 (QI Q) h 0 [some (rV x0), none] [] := by
  refine Wx.start (fun EB => ?_)
  unfold g_X1_cutWaits at hw
  refine x_aload_n HE 0 dX1_cutWaits_0 rfl rfl ?_
  refine x_callV HE dX1_cutWaits_1 rfl (fun l => k_X1_refusesCut (f0.ext EB) l hw) (As := []) (rest := []) rfl xc11 (Lay_X1.tag (f0.ext EB)) (lw_V q1517 q1519 qs40 q123 q1520) hy_X1_refusesCut rfl rfl (Nat.le_of_ble_eq_true rfl) (Nat.le_of_ble_eq_true rfl) (Nat.le_of_ble_eq_true rfl) (kkI (fun r1 m1 E1 hw => ?_))
  have hw := hw E1
  refine x_istore_n HE 1 (lo' := [some (rV x0), some (iV r1)]) dX1_cutWaits_4 rfl (Nat.le_of_ble_eq_true rfl) rfl ?_
  refine x_iload_n HE 1 dX1_cutWaits_5 rfl rfl ?_
  refine x_if_le HE 17 dX1_cutWaits_6 (by decide) (fun c6 => ?_) (fun c6 => ?_)
  · have hw := hw.1 c6
    refine x_aload_n HE 0 dX1_cutWaits_17 rfl rfl ?_
    refine x_aload_n HE 0 dX1_cutWaits_18 rfl rfl ?_
    refine x_aload_n HE 0 dX1_cutWaits_19 rfl rfl ?_
    refine x_callV HE dX1_cutWaits_20 rfl (fun l => k_X1_bestCut (f0.ext (EB.tr E1)) l hw) (As := []) (rest := [rV x0, rV x0]) rfl xc11 (Lay_X1.tag (f0.ext (EB.tr E1))) (lw_V q1521 q1523 qs41 q123 q1524) hy_X1_bestCut rfl rfl (Nat.le_of_ble_eq_true rfl) (Nat.le_of_ble_eq_true rfl) (Nat.le_of_ble_eq_true rfl) (kkI (fun r20 m20 E20 hw => ?_))
    have hw := hw E20
    refine x_callV HE dX1_cutWaits_23 rfl (fun l => k_X1_cutAt (f0.ext (EB.tr (E1.tr E20))) l hw) (As := [iV r20]) (rest := [rV x0]) rfl xc11 (Lay_X1.tag (f0.ext (EB.tr (E1.tr E20)))) (lw_V q1525 q1527 qs42 q123 q1528) hy_X1_cutAt rfl rfl (Nat.le_of_ble_eq_true rfl) (Nat.le_of_ble_eq_true rfl) (Nat.le_of_ble_eq_true rfl) (kkR (fun r23 m23 E23 hw => ?_))
    have hw := hw E23
    refine x_iconst HE dX1_cutWaits_26 (by decide) ?_
    obtain ⟨u27_0, hw⟩ := hw
    refine x_callV HE dX1_cutWaits_27 rfl (fun l => k_X21_sum u27_0 l hw) (As := [iV 3]) (rest := [rV x0]) rfl xc13 (Lay_X21.tag u27_0) (lw_V q1449 q1450 q1451 q157 q1452) hy_X21_sum rfl rfl (Nat.le_of_ble_eq_true rfl) (Nat.le_of_ble_eq_true rfl) (Nat.le_of_ble_eq_true rfl) (kkI (fun r27 m27 E27 hw => ?_))
    have hw := hw E27
    refine x_callV HE dX1_cutWaits_30 rfl (fun l => k_X1_well (f0.ext (EB.tr (E1.tr (E20.tr (E23.tr E27))))) l hw) (As := [iV r27]) (rest := []) rfl xc11 (Lay_X1.tag (f0.ext (EB.tr (E1.tr (E20.tr (E23.tr E27)))))) (lw_V q1253 q1255 qs26 q123 q1256) hy_X1_well rfl rfl (Nat.le_of_ble_eq_true rfl) (Nat.le_of_ble_eq_true rfl) (Nat.le_of_ble_eq_true rfl) (kkI (fun r30 m30 E30 hw => ?_))
    have hw := hw E30
    refine Wx.mask [true, false] (lo2 := [some (rV x0), none]) rfl ?_
    exact w_X1_cutWaits_33 HE hr f0 hw
  · have hw := hw.2 c6
    refine x_aload_n HE 0 dX1_cutWaits_9 rfl rfl ?_
    refine x_iload_n HE 1 dX1_cutWaits_10 rfl rfl ?_
    refine x_callV HE dX1_cutWaits_11 rfl (fun l => k_X1_refused (f0.ext (EB.tr E1)) l hw) (As := [iV r1]) (rest := []) rfl xc11 (Lay_X1.tag (f0.ext (EB.tr E1))) (lw_V q279 q281 qs0 q123 q282) hy_X1_refused rfl rfl (Nat.le_of_ble_eq_true rfl) (Nat.le_of_ble_eq_true rfl) (Nat.le_of_ble_eq_true rfl) (kkI (fun r11 m11 E11 hw => ?_))
    have hw := hw E11
    refine x_goto HE 33 dX1_cutWaits_14 (by decide) ?_
    refine Wx.mask [true, false] (lo2 := [some (rV x0), none]) rfl ?_
    exact w_X1_cutWaits_33 HE hr f0 hw
theorem k_X1_cutWaits {G : GT} {x0 : Int} {Q : Int → Hp → Prop} {h : Hp} (f0 : Lay_X1 h x0) (l : Launch) (hw : g_X1_cutWaits x0 Q h) : XM G l yX1_cutWaits cX1_cutWaits 2 (some .int) 11 244 [rV x0] (QI Q) h :=
  XM.of (by decide) (Nat.le_of_ble_eq_true rfl) (fun X HE hr hn => w_X1_cutWaits_0 HE hr f0 hw)
def g_X1_leastLook_b112 (x0 x1 : Int) (Q : Int → Hp → Prop) (l2 : Int) (h : Hp) : Prop :=
  g_X1_well x0 l2 (fun r114 m114 => Ext h m114 → (Q r114 m114)) h
theorem w_X1_leastLook_112 {G : GT} {X : ET} {h0 : Hp} {x0 x1 : Int} (HE : XE G X cX1_leastLook 6 RX1 9 198 h0) (hr : XR X (some .int)) (f0 : Lay_X1 h0 x0) {Q : Int → Hp → Prop} {l2 : Int} {h : Hp} (hw : g_X1_leastLook_b112 x0 x1 Q l2 h) : Wx G X h0 (QI Q) h 112 [some (rV x0), some (iV x1), some (iV l2), none, none, none] [] := by
  refine Wx.start (fun EB => ?_)
  unfold g_X1_leastLook_b112 at hw
  refine x_aload_n HE 0 dX1_leastLook_112 rfl rfl ?_
  refine x_iload_n HE 2 dX1_leastLook_113 rfl rfl ?_
  refine x_callV HE dX1_leastLook_114 rfl (fun l => k_X1_well (f0.ext EB) l hw) (As := [iV l2]) (rest := []) rfl xc11 (Lay_X1.tag (f0.ext EB)) (lw_V q1253 q1255 qs26 q123 q1256) hy_X1_well rfl rfl (Nat.le_of_ble_eq_true rfl) (Nat.le_of_ble_eq_true rfl) (Nat.le_of_ble_eq_true rfl) (kkI (fun r114 m114 E114 hw => ?_))
  have hw := hw E114
  exact x_iret HE hr dX1_leastLook_117 hw
def g_X1_leastLook_b106 (x0 x1 : Int) (Q : Int → Hp → Prop) (K40 : Int → Int → Int → Hp → Prop) (l2 l3 l4 : Int) (h : Hp) : Prop :=
  (i32 (l4 + 1)) ∧ (∀ y106 : Int, y106 = l4 + 1 → (K40 l2 l3 y106 h))
theorem w_X1_leastLook_106 {G : GT} {X : ET} {h0 : Hp} {x0 x1 : Int} (HE : XE G X cX1_leastLook 6 RX1 9 198 h0) (hr : XR X (some .int)) (f0 : Lay_X1 h0 x0) {Q : Int → Hp → Prop} {K40 : Int → Int → Int → Hp → Prop} (hK40 : ∀ (l2 l3 l4 : Int) (h : Hp), K40 l2 l3 l4 h → Wx G X h0 (QI Q) h 40 [some (rV x0), some (iV x1), some (iV l2), some (iV l3), some (iV l4), none] []) {l2 l3 l4 : Int} {h : Hp} (hw : g_X1_leastLook_b106 x0 x1 Q K40 l2 l3 l4 h) : Wx G X h0 (QI Q) h 106 [some (rV x0), some (iV x1), some (iV l2), some (iV l3), some (iV l4), none] [] := by
  refine Wx.start (fun EB => ?_)
  unfold g_X1_leastLook_b106 at hw
  obtain ⟨v106, hw⟩ := hw
  refine x_iincN HE (fun y106 => [some (rV x0), some (iV x1), some (iV l2), some (iV l3), some (iV y106), none]) dX1_leastLook_106 rfl v106 (Nat.le_of_ble_eq_true rfl) (fun _ => rfl) (fun y106 ey106 => ?_)
  have hw := hw y106 ey106
  refine x_goto HE 40 dX1_leastLook_109 (by decide) ?_
  exact hK40 _ _ _ _ hw
def g_X1_leastLook_b96 (x0 x1 : Int) (Q : Int → Hp → Prop) (K40 : Int → Int → Int → Hp → Prop) (l4 l5 : Int) (h : Hp) : Prop :=
  (Lay_X21 h l5) ∧ (g_X21_waits l5 x1 (fun r102 m102 => Ext h m102 → (g_X1_leastLook_b106 x0 x1 Q K40 l4 r102 l4 m102)) h)
theorem w_X1_leastLook_96 {G : GT} {X : ET} {h0 : Hp} {x0 x1 : Int} (HE : XE G X cX1_leastLook 6 RX1 9 198 h0) (hr : XR X (some .int)) (f0 : Lay_X1 h0 x0) {Q : Int → Hp → Prop} {K40 : Int → Int → Int → Hp → Prop} (hK40 : ∀ (l2 l3 l4 : Int) (h : Hp), K40 l2 l3 l4 h → Wx G X h0 (QI Q) h 40 [some (rV x0), some (iV x1), some (iV l2), some (iV l3), some (iV l4), none] []) {l4 l5 : Int} {h : Hp} (hw : g_X1_leastLook_b96 x0 x1 Q K40 l4 l5 h) : Wx G X h0 (QI Q) h 96 [some (rV x0), some (iV x1), none, none, some (iV l4), some (rV l5)] [] := by
  refine Wx.start (fun EB => ?_)
  unfold g_X1_leastLook_b96 at hw
  refine x_iload HE dX1_leastLook_96 rfl ?_
  refine x_istore_n HE 2 (lo' := [some (rV x0), some (iV x1), some (iV l4), none, some (iV l4), some (rV l5)]) dX1_leastLook_98 rfl (Nat.le_of_ble_eq_true rfl) rfl ?_
  refine x_aload HE dX1_leastLook_99 rfl ?_
  refine x_iload_n HE 1 dX1_leastLook_101 rfl rfl ?_
  obtain ⟨u102_0, hw⟩ := hw
  refine x_callV HE dX1_leastLook_102 rfl (fun l => k_X21_waits u102_0 l hw) (As := [iV x1]) (rest := []) rfl xc13 (Lay_X21.tag u102_0) (lw_V q1425 q1426 q1427 q157 q1428) hy_X21_waits rfl rfl (Nat.le_of_ble_eq_true rfl) (Nat.le_of_ble_eq_true rfl) (Nat.le_of_ble_eq_true rfl) (kkI (fun r102 m102 E102 hw => ?_))
  have hw := hw E102
  refine x_istore_n HE 3 (lo' := [some (rV x0), some (iV x1), some (iV l4), some (iV r102), some (iV l4), some (rV l5)]) dX1_leastLook_105 rfl (Nat.le_of_ble_eq_true rfl) rfl ?_
  refine Wx.mask [true, true, true, true, true, false] (lo2 := [some (rV x0), some (iV x1), some (iV l4), some (iV r102), some (iV l4), none]) rfl ?_
  exact w_X1_leastLook_106 HE hr f0 hK40 hw
def g_X1_leastLook_L40 (x0 x1 : Int) (Q : Int → Hp → Prop) (K40 : Int → Int → Int → Hp → Prop) (l2 l3 l4 : Int) (h : Hp) : Prop :=
  ((99 < l4) → (g_X1_leastLook_b112 x0 x1 Q l2 h)) ∧ ((l4 ≤ 99) → (g_X1_tries x0 (fun r48 m48 => Ext h m48 → ((Lay_X21 m48 r48) ∧ (((0 : Int) ≤ x1 ∧ x1 < 10) ∧ (∀ m61 : Hp, m61 = setA m48 (r48 + 3) x1 l4 → (g_X21_evening r48 (fun r64 m64 => Ext m61 m64 → (g_X21_hasIt r48 x1 (fun r71 m71 => Ext m64 m71 → (((r71 = 0) → (g_X1_leastLook_b106 x0 x1 Q K40 l2 l3 l4 m71)) ∧ ((r71 ≠ 0) → (((l2 = (-2)) → (g_X1_leastLook_b96 x0 x1 Q K40 l4 r48 m71)) ∧ ((l2 ≠ (-2)) → (g_X21_waits r48 x1 (fun r86 m86 => Ext m71 m86 → (((r86 < l3) → (g_X1_leastLook_b96 x0 x1 Q K40 l4 r48 m86)) ∧ ((l3 ≤ r86) → (g_X1_leastLook_b106 x0 x1 Q K40 l2 l3 l4 m86)))) m71)))))) m64)) m61))))) h))
theorem w_X1_leastLook_40 {G : GT} {X : ET} {h0 : Hp} {x0 x1 : Int} (HE : XE G X cX1_leastLook 6 RX1 9 198 h0) (hr : XR X (some .int)) (f0 : Lay_X1 h0 x0) {Q : Int → Hp → Prop} {K40 : Int → Int → Int → Hp → Prop} (hK40 : ∀ (l2 l3 l4 : Int) (h : Hp), K40 l2 l3 l4 h → Wx G X h0 (QI Q) h 40 [some (rV x0), some (iV x1), some (iV l2), some (iV l3), some (iV l4), none] []) {l2 l3 l4 : Int} {h : Hp} (hw : g_X1_leastLook_L40 x0 x1 Q K40 l2 l3 l4 h) : Wx G X h0 (QI Q) h 40 [some (rV x0), some (iV x1), some (iV l2), some (iV l3), some (iV l4), none] [] := by
  refine Wx.start (fun EB => ?_)
  unfold g_X1_leastLook_L40 at hw
  refine x_iload HE dX1_leastLook_40 rfl ?_
  refine x_bipush HE dX1_leastLook_42 (by decide) ?_
  refine x_ic_gt HE 112 dX1_leastLook_44 (by decide) (fun c44 => ?_) (fun c44 => ?_)
  · have hw := hw.1 c44
    refine Wx.mask [true, true, true, false, false, true] (lo2 := [some (rV x0), some (iV x1), some (iV l2), none, none, none]) rfl ?_
    exact w_X1_leastLook_112 HE hr f0 hw
  · have hw := hw.2 c44
    refine x_aload_n HE 0 dX1_leastLook_47 rfl rfl ?_
    refine x_callV HE dX1_leastLook_48 rfl (fun l => k_X1_tries (f0.ext EB) l hw) (As := []) (rest := []) rfl xc11 (Lay_X1.tag (f0.ext EB)) (lw_V q1475 q1477 qs38 q123 q1478) hy_X1_tries rfl rfl (Nat.le_of_ble_eq_true rfl) (Nat.le_of_ble_eq_true rfl) (Nat.le_of_ble_eq_true rfl) (kkR (fun r48 m48 E48 hw => ?_))
    have hw := hw E48
    refine x_astore HE (lo' := [some (rV x0), some (iV x1), some (iV l2), some (iV l3), some (iV l4), some (rV r48)]) dX1_leastLook_51 (Nat.le_of_ble_eq_true rfl) rfl ?_
    refine x_aload HE dX1_leastLook_53 rfl ?_
    obtain ⟨v55, hw⟩ := hw
    refine x_gR HE dX1_leastLook_55 fd_X21_4 q1132 (Or.inl rfl) (Lay_X21.tag v55) (Lay_X21_4 v55).1 ?_
    refine x_iload_n HE 1 dX1_leastLook_58 rfl rfl ?_
    refine x_iload HE dX1_leastLook_59 rfl ?_
    obtain ⟨i61, hw⟩ := hw
    refine x_iast HE dX1_leastLook_61 ((Lay_X21_4 v55).2.1) (ix_of ((Lay_X21_4 v55).2.2) i61) (fun m61 em61 E61 => ?_)
    have hw := hw m61 em61
    refine x_aload HE dX1_leastLook_62 rfl ?_
    refine x_callV HE dX1_leastLook_64 rfl (fun l => k_X21_evening (v55.ext E61) l hw) (As := []) (rest := []) rfl xc13 (Lay_X21.tag (v55.ext E61)) (lw_V q1390 q1391 q1392 q157 q1393) hy_X21_evening rfl rfl (Nat.le_of_ble_eq_true rfl) (Nat.le_of_ble_eq_true rfl) (Nat.le_of_ble_eq_true rfl) (kkR (fun r64 m64 E64 hw => ?_))
    have hw := hw E64
    refine x_pop HE dX1_leastLook_67 (fun o => o) ?_
    refine x_aload HE dX1_leastLook_68 rfl ?_
    refine x_iload_n HE 1 dX1_leastLook_70 rfl rfl ?_
    refine x_callV HE dX1_leastLook_71 rfl (fun l => k_X21_hasIt (v55.ext (E61.tr E64)) l hw) (As := [iV x1]) (rest := []) rfl xc13 (Lay_X21.tag (v55.ext (E61.tr E64))) (lw_V q1506 q1454 q1455 q157 q1456) hy_X21_hasIt rfl rfl (Nat.le_of_ble_eq_true rfl) (Nat.le_of_ble_eq_true rfl) (Nat.le_of_ble_eq_true rfl) (kkI (fun r71 m71 E71 hw => ?_))
    have hw := hw E71
    refine x_if_eq HE 106 dX1_leastLook_74 (by decide) (fun c74 => ?_) (fun c74 => ?_)
    · have hw := hw.1 c74
      refine Wx.mask [true, true, true, true, true, false] (lo2 := [some (rV x0), some (iV x1), some (iV l2), some (iV l3), some (iV l4), none]) rfl ?_
      exact w_X1_leastLook_106 HE hr f0 hK40 hw
    · have hw := hw.2 c74
      refine x_iload_n HE 2 dX1_leastLook_77 rfl rfl ?_
      refine x_bipush HE dX1_leastLook_78 (by decide) ?_
      refine x_ic_eq HE 96 dX1_leastLook_80 (by decide) (fun c80 => ?_) (fun c80 => ?_)
      · have hw := hw.1 c80
        refine Wx.mask [true, true, false, false, true, true] (lo2 := [some (rV x0), some (iV x1), none, none, some (iV l4), some (rV r48)]) rfl ?_
        exact w_X1_leastLook_96 HE hr f0 hK40 hw
      · have hw := hw.2 c80
        refine x_aload HE dX1_leastLook_83 rfl ?_
        refine x_iload_n HE 1 dX1_leastLook_85 rfl rfl ?_
        refine x_callV HE dX1_leastLook_86 rfl (fun l => k_X21_waits (v55.ext (E61.tr (E64.tr E71))) l hw) (As := [iV x1]) (rest := []) rfl xc13 (Lay_X21.tag (v55.ext (E61.tr (E64.tr E71)))) (lw_V q1425 q1426 q1427 q157 q1428) hy_X21_waits rfl rfl (Nat.le_of_ble_eq_true rfl) (Nat.le_of_ble_eq_true rfl) (Nat.le_of_ble_eq_true rfl) (kkI (fun r86 m86 E86 hw => ?_))
        have hw := hw E86
        refine x_iload_n HE 3 dX1_leastLook_89 rfl rfl ?_
        refine x_ic_lt HE 96 dX1_leastLook_90 (by decide) (fun c90 => ?_) (fun c90 => ?_)
        · have hw := hw.1 c90
          refine Wx.mask [true, true, false, false, true, true] (lo2 := [some (rV x0), some (iV x1), none, none, some (iV l4), some (rV r48)]) rfl ?_
          exact w_X1_leastLook_96 HE hr f0 hK40 hw
        · have hw := hw.2 c90
          refine x_goto HE 106 dX1_leastLook_93 (by decide) ?_
          refine Wx.mask [true, true, true, true, true, false] (lo2 := [some (rV x0), some (iV x1), some (iV l2), some (iV l3), some (iV l4), none]) rfl ?_
          exact w_X1_leastLook_106 HE hr f0 hK40 hw
theorem wl_X1_leastLook_40 {G : GT} {X : ET} {h0 : Hp} {x0 x1 : Int} (HE : XE G X cX1_leastLook 6 RX1 9 198 h0) (hr : XR X (some .int)) (f0 : Lay_X1 h0 x0) {Q : Int → Hp → Prop} {l2 l3 l4 : Int} {h : Hp} (hw : Lp3 (g_X1_leastLook_L40 x0 x1 Q) l2 l3 l4 h) : Wx G X h0 (QI Q) h 40 [some (rV x0), some (iV x1), some (iV l2), some (iV l3), some (iV l4), none] [] := by
  obtain ⟨n, hw⟩ := hw
  induction n generalizing l2 l3 l4 h with
  | zero => exact hw.elim
  | succ n ih => exact w_X1_leastLook_40 HE hr f0 (fun _ _ _ _ hk => ih hk) hw
def g_X1_leastLook (x0 x1 : Int) (Q : Int → Hp → Prop) (h : Hp) : Prop :=
  g_X1_isPerson x0 x1 (fun r2 m2 => Ext h m2 → (((r2 ≠ 0) → ((Lay_X21 m2 (hF m2 x0 6)) ∧ (((0 : Int) ≤ x1 ∧ x1 < 10) ∧ ((((hA m2 ((hF m2 x0 6) + 1) x1) = 0) → (Lp3 (g_X1_leastLook_L40 x0 x1 Q) (-2) 0 0 m2)) ∧ (((hA m2 ((hF m2 x0 6) + 1) x1) ≠ 0) → (g_X1_refused x0 5 (fun r28 m28 => Ext m2 m28 → (Q r28 m28)) m2)))))) ∧ ((r2 = 0) → (g_X1_refused x0 1 (fun r10 m10 => Ext m2 m10 → (Q r10 m10)) m2)))) h
theorem w_X1_leastLook_0 {G : GT} {X : ET} {h0 : Hp} {x0 x1 : Int} (HE : XE G X cX1_leastLook 6 RX1 9 198 h0) (hr : XR X (some .int)) (f0 : Lay_X1 h0 x0) {Q : Int → Hp → Prop} {h : Hp} (hw : g_X1_leastLook x0 x1 Q h) : Wx G X h0 (QI Q) h 0 [some (rV x0), some (iV x1), none, none, none, none] [] := by
  refine Wx.start (fun EB => ?_)
  unfold g_X1_leastLook at hw
  refine x_aload_n HE 0 dX1_leastLook_0 rfl rfl ?_
  refine x_iload_n HE 1 dX1_leastLook_1 rfl rfl ?_
  refine x_callV HE dX1_leastLook_2 rfl (fun l => k_X1_isPerson (f0.ext EB) l hw) (As := [iV x1]) (rest := []) rfl xc11 (Lay_X1.tag (f0.ext EB)) (lw_V q1269 q1271 qs27 q123 q1272) hy_X1_isPerson rfl rfl (Nat.le_of_ble_eq_true rfl) (Nat.le_of_ble_eq_true rfl) (Nat.le_of_ble_eq_true rfl) (kkI (fun r2 m2 E2 hw => ?_))
  have hw := hw E2
  refine x_if_ne HE 14 dX1_leastLook_5 (by decide) (fun c5 => ?_) (fun c5 => ?_)
  · have hw := hw.1 c5
    refine x_aload_n HE 0 dX1_leastLook_14 rfl rfl ?_
    refine x_gR HE dX1_leastLook_15 fd_X1_6 q228 (Or.inl rfl) (Lay_X1.tag (f0.ext (EB.tr E2))) rfl ?_
    obtain ⟨v18, hw⟩ := hw
    refine x_gR HE dX1_leastLook_18 fd_X21_2 q1125 (Or.inl rfl) (Lay_X21.tag v18) (Lay_X21_2 v18).1 ?_
    refine x_iload_n HE 1 dX1_leastLook_21 rfl rfl ?_
    obtain ⟨i22, hw⟩ := hw
    refine x_iald HE dX1_leastLook_22 (t := 1) (by decide) ((Lay_X21_2 v18).2.1) (ix_of ((Lay_X21_2 v18).2.2) i22) rfl ?_
    refine x_if_eq HE 32 dX1_leastLook_23 (by decide) (fun c23 => ?_) (fun c23 => ?_)
    · have hw := hw.1 c23
      refine x_bipush HE dX1_leastLook_32 (by decide) ?_
      refine x_istore_n HE 2 (lo' := [some (rV x0), some (iV x1), some (iV (-2)), none, none, none]) dX1_leastLook_34 rfl (Nat.le_of_ble_eq_true rfl) rfl ?_
      refine x_iconst HE dX1_leastLook_35 (by decide) ?_
      refine x_istore_n HE 3 (lo' := [some (rV x0), some (iV x1), some (iV (-2)), some (iV 0), none, none]) dX1_leastLook_36 rfl (Nat.le_of_ble_eq_true rfl) rfl ?_
      refine x_iconst HE dX1_leastLook_37 (by decide) ?_
      refine x_istore HE (lo' := [some (rV x0), some (iV x1), some (iV (-2)), some (iV 0), some (iV 0), none]) dX1_leastLook_38 (Nat.le_of_ble_eq_true rfl) rfl ?_
      exact wl_X1_leastLook_40 HE hr f0 hw
    · have hw := hw.2 c23
      refine x_aload_n HE 0 dX1_leastLook_26 rfl rfl ?_
      refine x_iconst HE dX1_leastLook_27 (by decide) ?_
      refine x_callV HE dX1_leastLook_28 rfl (fun l => k_X1_refused (f0.ext (EB.tr E2)) l hw) (As := [iV 5]) (rest := []) rfl xc11 (Lay_X1.tag (f0.ext (EB.tr E2))) (lw_V q279 q281 qs0 q123 q282) hy_X1_refused rfl rfl (Nat.le_of_ble_eq_true rfl) (Nat.le_of_ble_eq_true rfl) (Nat.le_of_ble_eq_true rfl) (kkI (fun r28 m28 E28 hw => ?_))
      have hw := hw E28
      exact x_iret HE hr dX1_leastLook_31 hw
  · have hw := hw.2 c5
    refine x_aload_n HE 0 dX1_leastLook_8 rfl rfl ?_
    refine x_iconst HE dX1_leastLook_9 (by decide) ?_
    refine x_callV HE dX1_leastLook_10 rfl (fun l => k_X1_refused (f0.ext (EB.tr E2)) l hw) (As := [iV 1]) (rest := []) rfl xc11 (Lay_X1.tag (f0.ext (EB.tr E2))) (lw_V q279 q281 qs0 q123 q282) hy_X1_refused rfl rfl (Nat.le_of_ble_eq_true rfl) (Nat.le_of_ble_eq_true rfl) (Nat.le_of_ble_eq_true rfl) (kkI (fun r10 m10 E10 hw => ?_))
    have hw := hw E10
    exact x_iret HE hr dX1_leastLook_13 hw
theorem k_X1_leastLook {G : GT} {x0 x1 : Int} {Q : Int → Hp → Prop} {h : Hp} (f0 : Lay_X1 h x0) (l : Launch) (hw : g_X1_leastLook x0 x1 Q h) : XM G l yX1_leastLook cX1_leastLook 6 (some .int) 9 198 [rV x0, iV x1] (QI Q) h :=
  XM.of (by decide) (Nat.le_of_ble_eq_true rfl) (fun X HE hr hn => w_X1_leastLook_0 HE hr f0 hw)
def g_X1_isWaiting_b18 (x0 x1 : Int) (Q : Int → Hp → Prop) (s0 : Int) (h : Hp) : Prop :=
  (s0 = 0 ∨ s0 = 1) ∧ Q s0 h
theorem w_X1_isWaiting_18 {G : GT} {X : ET} {h0 : Hp} {x0 x1 : Int} (HE : XE G X cX1_isWaiting 2 RX1 0 0 h0) (hr : XR X (some .boolean)) (f0 : Lay_X1 h0 x0) {Q : Int → Hp → Prop} {s0 : Int} {h : Hp} (hw : g_X1_isWaiting_b18 x0 x1 Q s0 h) : Wx G X h0 (QI Q) h 18 [some (rV x0), some (iV x1)] [iV s0] := by
  refine Wx.start (fun EB => ?_)
  unfold g_X1_isWaiting_b18 at hw
  exact x_zret HE hr dX1_isWaiting_18 hw.1 hw.2
def g_X1_isWaiting (x0 x1 : Int) (Q : Int → Hp → Prop) (h : Hp) : Prop :=
  (Lay_X21 h (hF h x0 6)) ∧ (((0 : Int) ≤ x1 ∧ x1 < 10) ∧ ((((hA h ((hF h x0 6) + 1) x1) ≠ 1) → (g_X1_isWaiting_b18 x0 x1 Q 0 h)) ∧ (((hA h ((hF h x0 6) + 1) x1) = 1) → (g_X1_isWaiting_b18 x0 x1 Q 1 h))))
theorem w_X1_isWaiting_0 {G : GT} {X : ET} {h0 : Hp} {x0 x1 : Int} (HE : XE G X cX1_isWaiting 2 RX1 0 0 h0) (hr : XR X (some .boolean)) (f0 : Lay_X1 h0 x0) {Q : Int → Hp → Prop} {h : Hp} (hw : g_X1_isWaiting x0 x1 Q h) : Wx G X h0 (QI Q) h 0 [some (rV x0), some (iV x1)] [] := by
  refine Wx.start (fun EB => ?_)
  unfold g_X1_isWaiting at hw
  refine x_aload_n HE 0 dX1_isWaiting_0 rfl rfl ?_
  refine x_gR HE dX1_isWaiting_1 fd_X1_6 q228 (Or.inl rfl) (Lay_X1.tag (f0.ext EB)) rfl ?_
  obtain ⟨v4, hw⟩ := hw
  refine x_gR HE dX1_isWaiting_4 fd_X21_2 q1125 (Or.inl rfl) (Lay_X21.tag v4) (Lay_X21_2 v4).1 ?_
  refine x_iload_n HE 1 dX1_isWaiting_7 rfl rfl ?_
  obtain ⟨i8, hw⟩ := hw
  refine x_iald HE dX1_isWaiting_8 (t := 1) (by decide) ((Lay_X21_2 v4).2.1) (ix_of ((Lay_X21_2 v4).2.2) i8) rfl ?_
  refine x_iconst HE dX1_isWaiting_9 (by decide) ?_
  refine x_ic_ne HE 17 dX1_isWaiting_10 (by decide) (fun c10 => ?_) (fun c10 => ?_)
  · have hw := hw.1 c10
    refine x_iconst HE dX1_isWaiting_17 (by decide) ?_
    exact w_X1_isWaiting_18 HE hr f0 hw
  · have hw := hw.2 c10
    refine x_iconst HE dX1_isWaiting_13 (by decide) ?_
    refine x_goto HE 18 dX1_isWaiting_14 (by decide) ?_
    exact w_X1_isWaiting_18 HE hr f0 hw
theorem k_X1_isWaiting {G : GT} {x0 x1 : Int} {Q : Int → Hp → Prop} {h : Hp} (f0 : Lay_X1 h x0) (l : Launch) (hw : g_X1_isWaiting x0 x1 Q h) : XM G l yX1_isWaiting cX1_isWaiting 2 (some .boolean) 0 0 [rV x0, iV x1] (QI Q) h :=
  XM.of (by decide) (Nat.le_of_ble_eq_true rfl) (fun X HE hr hn => w_X1_isWaiting_0 HE hr f0 hw)
def g_X1_canLet_b42 (x0 x1 x2 : Int) (Q : Int → Hp → Prop) (s0 : Int) (h : Hp) : Prop :=
  (s0 = 0 ∨ s0 = 1) ∧ Q s0 h
theorem w_X1_canLet_42 {G : GT} {X : ET} {h0 : Hp} {x0 x1 x2 : Int} (HE : XE G X cX1_canLet 3 RX1 1 21 h0) (hr : XR X (some .boolean)) (f0 : Lay_X1 h0 x0) {Q : Int → Hp → Prop} {s0 : Int} {h : Hp} (hw : g_X1_canLet_b42 x0 x1 x2 Q s0 h) : Wx G X h0 (QI Q) h 42 [some (rV x0), some (iV x1), some (iV x2)] [iV s0] := by
  refine Wx.start (fun EB => ?_)
  unfold g_X1_canLet_b42 at hw
  exact x_zret HE hr dX1_canLet_42 hw.1 hw.2
def g_X1_canLet_b41 (x0 x1 x2 : Int) (Q : Int → Hp → Prop) (h : Hp) : Prop :=
  g_X1_canLet_b42 x0 x1 x2 Q 0 h
theorem w_X1_canLet_41 {G : GT} {X : ET} {h0 : Hp} {x0 x1 x2 : Int} (HE : XE G X cX1_canLet 3 RX1 1 21 h0) (hr : XR X (some .boolean)) (f0 : Lay_X1 h0 x0) {Q : Int → Hp → Prop} {h : Hp} (hw : g_X1_canLet_b41 x0 x1 x2 Q  h) : Wx G X h0 (QI Q) h 41 [some (rV x0), some (iV x1), some (iV x2)] [] := by
  refine Wx.start (fun EB => ?_)
  unfold g_X1_canLet_b41 at hw
  refine x_iconst HE dX1_canLet_41 (by decide) ?_
  exact w_X1_canLet_42 HE hr f0 hw
def g_X1_canLet (x0 x1 x2 : Int) (Q : Int → Hp → Prop) (h : Hp) : Prop :=
  g_X1_isWaiting x0 x1 (fun r2 m2 => Ext h m2 → (((r2 = 0) → (g_X1_canLet_b41 x0 x1 x2 Q m2)) ∧ ((r2 ≠ 0) → (g_X1_isWaiting x0 x2 (fun r10 m10 => Ext m2 m10 → (((r10 = 0) → (g_X1_canLet_b41 x0 x1 x2 Q m10)) ∧ ((r10 ≠ 0) → ((Lay_X21 m10 (hF m10 x0 6)) ∧ (((0 : Int) ≤ x1 ∧ x1 < 10) ∧ (((0 : Int) ≤ x2 ∧ x2 < 10) ∧ ((((hA m10 ((hF m10 x0 6) + 4) x2) < (hA m10 ((hF m10 x0 6) + 4) x1)) → (g_X1_canLet_b41 x0 x1 x2 Q m10)) ∧ (((hA m10 ((hF m10 x0 6) + 4) x1) ≤ (hA m10 ((hF m10 x0 6) + 4) x2)) → (g_X1_canLet_b42 x0 x1 x2 Q 1 m10))))))))) m2)))) h
theorem w_X1_canLet_0 {G : GT} {X : ET} {h0 : Hp} {x0 x1 x2 : Int} (HE : XE G X cX1_canLet 3 RX1 1 21 h0) (hr : XR X (some .boolean)) (f0 : Lay_X1 h0 x0) {Q : Int → Hp → Prop} {h : Hp} (hw : g_X1_canLet x0 x1 x2 Q h) : Wx G X h0 (QI Q) h 0 [some (rV x0), some (iV x1), some (iV x2)] [] := by
  refine Wx.start (fun EB => ?_)
  unfold g_X1_canLet at hw
  refine x_aload_n HE 0 dX1_canLet_0 rfl rfl ?_
  refine x_iload_n HE 1 dX1_canLet_1 rfl rfl ?_
  refine x_callV HE dX1_canLet_2 rfl (fun l => k_X1_isWaiting (f0.ext EB) l hw) (As := [iV x1]) (rest := []) rfl xc11 (Lay_X1.tag (f0.ext EB)) (lw_V q1545 q1547 qs44 q123 q1548) hy_X1_isWaiting rfl rfl (Nat.le_of_ble_eq_true rfl) (Nat.le_of_ble_eq_true rfl) (Nat.le_of_ble_eq_true rfl) (kkI (fun r2 m2 E2 hw => ?_))
  have hw := hw E2
  refine x_if_eq HE 41 dX1_canLet_5 (by decide) (fun c5 => ?_) (fun c5 => ?_)
  · have hw := hw.1 c5
    exact w_X1_canLet_41 HE hr f0 hw
  · have hw := hw.2 c5
    refine x_aload_n HE 0 dX1_canLet_8 rfl rfl ?_
    refine x_iload_n HE 2 dX1_canLet_9 rfl rfl ?_
    refine x_callV HE dX1_canLet_10 rfl (fun l => k_X1_isWaiting (f0.ext (EB.tr E2)) l hw) (As := [iV x2]) (rest := []) rfl xc11 (Lay_X1.tag (f0.ext (EB.tr E2))) (lw_V q1545 q1547 qs44 q123 q1548) hy_X1_isWaiting rfl rfl (Nat.le_of_ble_eq_true rfl) (Nat.le_of_ble_eq_true rfl) (Nat.le_of_ble_eq_true rfl) (kkI (fun r10 m10 E10 hw => ?_))
    have hw := hw E10
    refine x_if_eq HE 41 dX1_canLet_13 (by decide) (fun c13 => ?_) (fun c13 => ?_)
    · have hw := hw.1 c13
      exact w_X1_canLet_41 HE hr f0 hw
    · have hw := hw.2 c13
      refine x_aload_n HE 0 dX1_canLet_16 rfl rfl ?_
      refine x_gR HE dX1_canLet_17 fd_X1_6 q228 (Or.inl rfl) (Lay_X1.tag (f0.ext (EB.tr (E2.tr E10)))) rfl ?_
      obtain ⟨v20, hw⟩ := hw
      refine x_gR HE dX1_canLet_20 fd_X21_5 q1135 (Or.inl rfl) (Lay_X21.tag v20) (Lay_X21_5 v20).1 ?_
      refine x_iload_n HE 1 dX1_canLet_23 rfl rfl ?_
      obtain ⟨i24, hw⟩ := hw
      refine x_iald HE dX1_canLet_24 (t := 1) (by decide) ((Lay_X21_5 v20).2.1) (ix_of ((Lay_X21_5 v20).2.2) i24) rfl ?_
      refine x_aload_n HE 0 dX1_canLet_25 rfl rfl ?_
      refine x_gR HE dX1_canLet_26 fd_X1_6 q228 (Or.inl rfl) (Lay_X1.tag (f0.ext (EB.tr (E2.tr E10)))) rfl ?_
      refine x_gR HE dX1_canLet_29 fd_X21_5 q1135 (Or.inl rfl) (Lay_X21.tag v20) (Lay_X21_5 v20).1 ?_
      refine x_iload_n HE 2 dX1_canLet_32 rfl rfl ?_
      obtain ⟨i33, hw⟩ := hw
      refine x_iald HE dX1_canLet_33 (t := 1) (by decide) ((Lay_X21_5 v20).2.1) (ix_of ((Lay_X21_5 v20).2.2) i33) rfl ?_
      refine x_ic_gt HE 41 dX1_canLet_34 (by decide) (fun c34 => ?_) (fun c34 => ?_)
      · have hw := hw.1 c34
        exact w_X1_canLet_41 HE hr f0 hw
      · have hw := hw.2 c34
        refine x_iconst HE dX1_canLet_37 (by decide) ?_
        refine x_goto HE 42 dX1_canLet_38 (by decide) ?_
        exact w_X1_canLet_42 HE hr f0 hw
theorem k_X1_canLet {G : GT} {x0 x1 x2 : Int} {Q : Int → Hp → Prop} {h : Hp} (f0 : Lay_X1 h x0) (l : Launch) (hw : g_X1_canLet x0 x1 x2 Q h) : XM G l yX1_canLet cX1_canLet 3 (some .boolean) 1 21 [rV x0, iV x1, iV x2] (QI Q) h :=
  XM.of (by decide) (Nat.le_of_ble_eq_true rfl) (fun X HE hr hn => w_X1_canLet_0 HE hr f0 hw)
def g_X1_letCosts_b21 (x0 x1 x2 : Int) (Q : Int → Hp → Prop) (h : Hp) : Prop :=
  g_X1_lost x0 1 (-1000) (fun r26 m26 => Ext h m26 → (Q r26 m26)) h
theorem w_X1_letCosts_21 {G : GT} {X : ET} {h0 : Hp} {x0 x1 x2 : Int} (HE : XE G X cX1_letCosts 5 RX1 10 218 h0) (hr : XR X (some .int)) (f0 : Lay_X1 h0 x0) {Q : Int → Hp → Prop} {h : Hp} (hw : g_X1_letCosts_b21 x0 x1 x2 Q  h) : Wx G X h0 (QI Q) h 21 [some (rV x0), some (iV x1), some (iV x2), none, none] [] := by
  refine Wx.start (fun EB => ?_)
  unfold g_X1_letCosts_b21 at hw
  refine x_aload_n HE 0 dX1_letCosts_21 rfl rfl ?_
  refine x_iconst HE dX1_letCosts_22 (by decide) ?_
  refine x_sipush HE dX1_letCosts_23 (by decide) ?_
  refine x_callV HE dX1_letCosts_26 rfl (fun l => k_X1_lost (f0.ext EB) l hw) (As := [iV 1, iV (-1000)]) (rest := []) rfl xc11 (Lay_X1.tag (f0.ext EB)) (lw_V q1488 q1490 qs39 q123 q1491) hy_X1_lost rfl rfl (Nat.le_of_ble_eq_true rfl) (Nat.le_of_ble_eq_true rfl) (Nat.le_of_ble_eq_true rfl) (kkI (fun r26 m26 E26 hw => ?_))
  have hw := hw E26
  exact x_iret HE hr dX1_letCosts_29 hw
def g_X1_letCosts (x0 x1 x2 : Int) (Q : Int → Hp → Prop) (h : Hp) : Prop :=
  g_X1_isPerson x0 x1 (fun r2 m2 => Ext h m2 → (((r2 = 0) → (g_X1_letCosts_b21 x0 x1 x2 Q m2)) ∧ ((r2 ≠ 0) → (g_X1_isPerson x0 x2 (fun r10 m10 => Ext m2 m10 → (((r10 = 0) → (g_X1_letCosts_b21 x0 x1 x2 Q m10)) ∧ ((r10 ≠ 0) → (((x1 ≠ x2) → (g_X1_canLet x0 x1 x2 (fun r33 m33 => Ext m10 m33 → (((r33 ≠ 0) → (g_X1_toCome x0 (fun r49 m49 => Ext m33 m49 → ((Lay_X21 m49 r49) ∧ (g_X21_waits r49 x1 (fun r53 m53 => Ext m49 m53 → (g_X1_tries x0 (fun r58 m58 => Ext m53 m58 → ((Lay_X21 m58 r58) ∧ (((0 : Int) ≤ x2 ∧ x2 < 10) ∧ ((i32 ((hA m58 (r58 + 4) x2) + 1)) ∧ (((0 : Int) ≤ x1 ∧ x1 < 10) ∧ (∀ m78 : Hp, m78 = setA m58 (r58 + 4) x1 ((hA m58 (r58 + 4) x2) + 1) → (g_X21_evening r58 (fun r82 m82 => Ext m78 m82 → ((Lay_X21 m82 r82) ∧ (g_X21_waits r82 x1 (fun r86 m86 => Ext m82 m86 → ((i32 (r86 - r53)) ∧ (g_X1_well x0 (r86 - r53) (fun r91 m91 => Ext m86 m91 → (Q r91 m91)) m86))) m82))) m78))))))) m53)) m49))) m33)) ∧ ((r33 = 0) → (g_X1_lost x0 5 (-1000) (fun r44 m44 => Ext m33 m44 → (Q r44 m44)) m33)))) m10)) ∧ ((x1 = x2) → (g_X1_letCosts_b21 x0 x1 x2 Q m10)))))) m2)))) h
theorem w_X1_letCosts_0 {G : GT} {X : ET} {h0 : Hp} {x0 x1 x2 : Int} (HE : XE G X cX1_letCosts 5 RX1 10 218 h0) (hr : XR X (some .int)) (f0 : Lay_X1 h0 x0) {Q : Int → Hp → Prop} {h : Hp} (hw : g_X1_letCosts x0 x1 x2 Q h) : Wx G X h0 (QI Q) h 0 [some (rV x0), some (iV x1), some (iV x2), none, none] [] := by
  refine Wx.start (fun EB => ?_)
  unfold g_X1_letCosts at hw
  refine x_aload_n HE 0 dX1_letCosts_0 rfl rfl ?_
  refine x_iload_n HE 1 dX1_letCosts_1 rfl rfl ?_
  refine x_callV HE dX1_letCosts_2 rfl (fun l => k_X1_isPerson (f0.ext EB) l hw) (As := [iV x1]) (rest := []) rfl xc11 (Lay_X1.tag (f0.ext EB)) (lw_V q1269 q1271 qs27 q123 q1272) hy_X1_isPerson rfl rfl (Nat.le_of_ble_eq_true rfl) (Nat.le_of_ble_eq_true rfl) (Nat.le_of_ble_eq_true rfl) (kkI (fun r2 m2 E2 hw => ?_))
  have hw := hw E2
  refine x_if_eq HE 21 dX1_letCosts_5 (by decide) (fun c5 => ?_) (fun c5 => ?_)
  · have hw := hw.1 c5
    exact w_X1_letCosts_21 HE hr f0 hw
  · have hw := hw.2 c5
    refine x_aload_n HE 0 dX1_letCosts_8 rfl rfl ?_
    refine x_iload_n HE 2 dX1_letCosts_9 rfl rfl ?_
    refine x_callV HE dX1_letCosts_10 rfl (fun l => k_X1_isPerson (f0.ext (EB.tr E2)) l hw) (As := [iV x2]) (rest := []) rfl xc11 (Lay_X1.tag (f0.ext (EB.tr E2))) (lw_V q1269 q1271 qs27 q123 q1272) hy_X1_isPerson rfl rfl (Nat.le_of_ble_eq_true rfl) (Nat.le_of_ble_eq_true rfl) (Nat.le_of_ble_eq_true rfl) (kkI (fun r10 m10 E10 hw => ?_))
    have hw := hw E10
    refine x_if_eq HE 21 dX1_letCosts_13 (by decide) (fun c13 => ?_) (fun c13 => ?_)
    · have hw := hw.1 c13
      exact w_X1_letCosts_21 HE hr f0 hw
    · have hw := hw.2 c13
      refine x_iload_n HE 1 dX1_letCosts_16 rfl rfl ?_
      refine x_iload_n HE 2 dX1_letCosts_17 rfl rfl ?_
      refine x_ic_ne HE 30 dX1_letCosts_18 (by decide) (fun c18 => ?_) (fun c18 => ?_)
      · have hw := hw.1 c18
        refine x_aload_n HE 0 dX1_letCosts_30 rfl rfl ?_
        refine x_iload_n HE 1 dX1_letCosts_31 rfl rfl ?_
        refine x_iload_n HE 2 dX1_letCosts_32 rfl rfl ?_
        refine x_callV HE dX1_letCosts_33 rfl (fun l => k_X1_canLet (f0.ext (EB.tr (E2.tr E10))) l hw) (As := [iV x1, iV x2]) (rest := []) rfl xc11 (Lay_X1.tag (f0.ext (EB.tr (E2.tr E10)))) (lw_V q1541 q1543 qs43 q123 q1544) hy_X1_canLet rfl rfl (Nat.le_of_ble_eq_true rfl) (Nat.le_of_ble_eq_true rfl) (Nat.le_of_ble_eq_true rfl) (kkI (fun r33 m33 E33 hw => ?_))
        have hw := hw E33
        refine x_if_ne HE 48 dX1_letCosts_36 (by decide) (fun c36 => ?_) (fun c36 => ?_)
        · have hw := hw.1 c36
          refine x_aload_n HE 0 dX1_letCosts_48 rfl rfl ?_
          refine x_callV HE dX1_letCosts_49 rfl (fun l => k_X1_toCome (f0.ext (EB.tr (E2.tr (E10.tr E33)))) l hw) (As := []) (rest := []) rfl xc11 (Lay_X1.tag (f0.ext (EB.tr (E2.tr (E10.tr E33))))) (lw_V q1385 q1387 qs32 q123 q1388) hy_X1_toCome rfl rfl (Nat.le_of_ble_eq_true rfl) (Nat.le_of_ble_eq_true rfl) (Nat.le_of_ble_eq_true rfl) (kkR (fun r49 m49 E49 hw => ?_))
          have hw := hw E49
          refine x_iload_n HE 1 dX1_letCosts_52 rfl rfl ?_
          obtain ⟨u53_0, hw⟩ := hw
          refine x_callV HE dX1_letCosts_53 rfl (fun l => k_X21_waits u53_0 l hw) (As := [iV x1]) (rest := []) rfl xc13 (Lay_X21.tag u53_0) (lw_V q1425 q1426 q1427 q157 q1428) hy_X21_waits rfl rfl (Nat.le_of_ble_eq_true rfl) (Nat.le_of_ble_eq_true rfl) (Nat.le_of_ble_eq_true rfl) (kkI (fun r53 m53 E53 hw => ?_))
          have hw := hw E53
          refine x_istore_n HE 3 (lo' := [some (rV x0), some (iV x1), some (iV x2), some (iV r53), none]) dX1_letCosts_56 rfl (Nat.le_of_ble_eq_true rfl) rfl ?_
          refine x_aload_n HE 0 dX1_letCosts_57 rfl rfl ?_
          refine x_callV HE dX1_letCosts_58 rfl (fun l => k_X1_tries (f0.ext (EB.tr (E2.tr (E10.tr (E33.tr (E49.tr E53)))))) l hw) (As := []) (rest := []) rfl xc11 (Lay_X1.tag (f0.ext (EB.tr (E2.tr (E10.tr (E33.tr (E49.tr E53))))))) (lw_V q1475 q1477 qs38 q123 q1478) hy_X1_tries rfl rfl (Nat.le_of_ble_eq_true rfl) (Nat.le_of_ble_eq_true rfl) (Nat.le_of_ble_eq_true rfl) (kkR (fun r58 m58 E58 hw => ?_))
          have hw := hw E58
          refine x_astore HE (lo' := [some (rV x0), some (iV x1), some (iV x2), some (iV r53), some (rV r58)]) dX1_letCosts_61 (Nat.le_of_ble_eq_true rfl) rfl ?_
          refine x_aload HE dX1_letCosts_63 rfl ?_
          obtain ⟨v65, hw⟩ := hw
          refine x_gR HE dX1_letCosts_65 fd_X21_5 q1135 (Or.inl rfl) (Lay_X21.tag v65) (Lay_X21_5 v65).1 ?_
          refine x_iload_n HE 1 dX1_letCosts_68 rfl rfl ?_
          refine x_aload HE dX1_letCosts_69 rfl ?_
          refine x_gR HE dX1_letCosts_71 fd_X21_5 q1135 (Or.inl rfl) (Lay_X21.tag v65) (Lay_X21_5 v65).1 ?_
          refine x_iload_n HE 2 dX1_letCosts_74 rfl rfl ?_
          obtain ⟨i75, hw⟩ := hw
          refine x_iald HE dX1_letCosts_75 (t := 1) (by decide) ((Lay_X21_5 v65).2.1) (ix_of ((Lay_X21_5 v65).2.2) i75) rfl ?_
          refine x_iconst HE dX1_letCosts_76 (by decide) ?_
          obtain ⟨v77, hw⟩ := hw
          refine x_iadd HE dX1_letCosts_77 v77 ?_
          obtain ⟨i78, hw⟩ := hw
          refine x_iast HE dX1_letCosts_78 ((Lay_X21_5 v65).2.1) (ix_of ((Lay_X21_5 v65).2.2) i78) (fun m78 em78 E78 => ?_)
          have hw := hw m78 em78
          refine x_aload_n HE 0 dX1_letCosts_79 rfl rfl ?_
          refine x_aload HE dX1_letCosts_80 rfl ?_
          refine x_callV HE dX1_letCosts_82 rfl (fun l => k_X21_evening (v65.ext E78) l hw) (As := []) (rest := [rV x0]) rfl xc13 (Lay_X21.tag (v65.ext E78)) (lw_V q1390 q1391 q1392 q157 q1393) hy_X21_evening rfl rfl (Nat.le_of_ble_eq_true rfl) (Nat.le_of_ble_eq_true rfl) (Nat.le_of_ble_eq_true rfl) (kkR (fun r82 m82 E82 hw => ?_))
          have hw := hw E82
          refine x_iload_n HE 1 dX1_letCosts_85 rfl rfl ?_
          obtain ⟨u86_0, hw⟩ := hw
          refine x_callV HE dX1_letCosts_86 rfl (fun l => k_X21_waits u86_0 l hw) (As := [iV x1]) (rest := [rV x0]) rfl xc13 (Lay_X21.tag u86_0) (lw_V q1425 q1426 q1427 q157 q1428) hy_X21_waits rfl rfl (Nat.le_of_ble_eq_true rfl) (Nat.le_of_ble_eq_true rfl) (Nat.le_of_ble_eq_true rfl) (kkI (fun r86 m86 E86 hw => ?_))
          have hw := hw E86
          refine x_iload_n HE 3 dX1_letCosts_89 rfl rfl ?_
          obtain ⟨v90, hw⟩ := hw
          refine x_isub HE dX1_letCosts_90 v90 ?_
          refine x_callV HE dX1_letCosts_91 rfl (fun l => k_X1_well (f0.ext (EB.tr (E2.tr (E10.tr (E33.tr (E49.tr (E53.tr (E58.tr (E78.tr (E82.tr E86)))))))))) l hw) (As := [iV (r86 - r53)]) (rest := []) rfl xc11 (Lay_X1.tag (f0.ext (EB.tr (E2.tr (E10.tr (E33.tr (E49.tr (E53.tr (E58.tr (E78.tr (E82.tr E86))))))))))) (lw_V q1253 q1255 qs26 q123 q1256) hy_X1_well rfl rfl (Nat.le_of_ble_eq_true rfl) (Nat.le_of_ble_eq_true rfl) (Nat.le_of_ble_eq_true rfl) (kkI (fun r91 m91 E91 hw => ?_))
          have hw := hw E91
          exact x_iret HE hr dX1_letCosts_94 hw
        · have hw := hw.2 c36
          refine x_aload_n HE 0 dX1_letCosts_39 rfl rfl ?_
          refine x_iconst HE dX1_letCosts_40 (by decide) ?_
          refine x_sipush HE dX1_letCosts_41 (by decide) ?_
          refine x_callV HE dX1_letCosts_44 rfl (fun l => k_X1_lost (f0.ext (EB.tr (E2.tr (E10.tr E33)))) l hw) (As := [iV 5, iV (-1000)]) (rest := []) rfl xc11 (Lay_X1.tag (f0.ext (EB.tr (E2.tr (E10.tr E33))))) (lw_V q1488 q1490 qs39 q123 q1491) hy_X1_lost rfl rfl (Nat.le_of_ble_eq_true rfl) (Nat.le_of_ble_eq_true rfl) (Nat.le_of_ble_eq_true rfl) (kkI (fun r44 m44 E44 hw => ?_))
          have hw := hw E44
          exact x_iret HE hr dX1_letCosts_47 hw
      · have hw := hw.2 c18
        exact w_X1_letCosts_21 HE hr f0 hw
theorem k_X1_letCosts {G : GT} {x0 x1 x2 : Int} {Q : Int → Hp → Prop} {h : Hp} (f0 : Lay_X1 h x0) (l : Launch) (hw : g_X1_letCosts x0 x1 x2 Q h) : XM G l yX1_letCosts cX1_letCosts 5 (some .int) 10 218 [rV x0, iV x1, iV x2] (QI Q) h :=
  XM.of (by decide) (Nat.le_of_ble_eq_true rfl) (fun X HE hr hn => w_X1_letCosts_0 HE hr f0 hw)
def g_X1_bell_b16 (x0 x1 x2 : Int) (Q : Int → Hp → Prop) (h : Hp) : Prop :=
  g_X1_refused x0 1 (fun r18 m18 => Ext h m18 → (Q r18 m18)) h
theorem w_X1_bell_16 {G : GT} {X : ET} {h0 : Hp} {x0 x1 x2 : Int} (HE : XE G X cX1_bell 4 RX1 9 198 h0) (hr : XR X (some .int)) (f0 : Lay_X1 h0 x0) {Q : Int → Hp → Prop} {h : Hp} (hw : g_X1_bell_b16 x0 x1 x2 Q  h) : Wx G X h0 (QI Q) h 16 [some (rV x0), some (iV x1), some (iV x2), none] [] := by
  refine Wx.start (fun EB => ?_)
  unfold g_X1_bell_b16 at hw
  refine x_aload_n HE 0 dX1_bell_16 rfl rfl ?_
  refine x_iconst HE dX1_bell_17 (by decide) ?_
  refine x_callV HE dX1_bell_18 rfl (fun l => k_X1_refused (f0.ext EB) l hw) (As := [iV 1]) (rest := []) rfl xc11 (Lay_X1.tag (f0.ext EB)) (lw_V q279 q281 qs0 q123 q282) hy_X1_refused rfl rfl (Nat.le_of_ble_eq_true rfl) (Nat.le_of_ble_eq_true rfl) (Nat.le_of_ble_eq_true rfl) (kkI (fun r18 m18 E18 hw => ?_))
  have hw := hw E18
  exact x_iret HE hr dX1_bell_21 hw
def g_X1_bell (x0 x1 x2 : Int) (Q : Int → Hp → Prop) (h : Hp) : Prop :=
  (((hF h x0 5) = 0) → (g_X1_bell_b16 x0 x1 x2 Q h)) ∧ ((0 < (hF h x0 5)) → (g_X1_in x2 0 5 (fun r10 m10 => Ext h m10 → (((r10 ≠ 0) → ((Lay_X21 m10 (hF m10 x0 6)) ∧ (g_X1_in x1 (hF m10 (hF m10 x0 6) 24) 900 (fun r33 m33 => Ext m10 m33 → (((r33 ≠ 0) → (g_X1_tries x0 (fun r46 m46 => Ext m33 m46 → ((Lay_X21 m46 r46) ∧ (∀ m52 : Hp, m52 = setF m46 r46 26 x1 → (g_X21_evening r46 (fun r57 m57 => Ext m52 m57 → ((Lay_X21 m57 r57) ∧ (g_X21_sum r57 x2 (fun r61 m61 => Ext m57 m61 → (g_X1_well x0 r61 (fun r64 m64 => Ext m61 m64 → (Q r64 m64)) m61)) m57))) m52)))) m33)) ∧ ((r33 = 0) → (g_X1_refused x0 2 (fun r41 m41 => Ext m33 m41 → (Q r41 m41)) m33)))) m10))) ∧ ((r10 = 0) → (g_X1_bell_b16 x0 x1 x2 Q m10)))) h))
theorem w_X1_bell_0 {G : GT} {X : ET} {h0 : Hp} {x0 x1 x2 : Int} (HE : XE G X cX1_bell 4 RX1 9 198 h0) (hr : XR X (some .int)) (f0 : Lay_X1 h0 x0) {Q : Int → Hp → Prop} {h : Hp} (hw : g_X1_bell x0 x1 x2 Q h) : Wx G X h0 (QI Q) h 0 [some (rV x0), some (iV x1), some (iV x2), none] [] := by
  refine Wx.start (fun EB => ?_)
  unfold g_X1_bell at hw
  refine x_aload_n HE 0 dX1_bell_0 rfl rfl ?_
  refine x_gR HE dX1_bell_1 fd_X1_5 q227 (Or.inl rfl) (Lay_X1.tag (f0.ext EB)) rfl ?_
  refine x_ifnull HE 16 dX1_bell_4 (by decide) (fun c4 => ?_) (fun c4 => ?_)
  · have hw := hw.1 c4
    exact w_X1_bell_16 HE hr f0 hw
  · have hw := hw.2 c4
    refine x_iload_n HE 2 dX1_bell_7 rfl rfl ?_
    refine x_iconst HE dX1_bell_8 (by decide) ?_
    refine x_iconst HE dX1_bell_9 (by decide) ?_
    refine x_callS HE dX1_bell_10 rfl (fun l => k_X1_in  l hw) (As := [iV x2, iV 0, iV 5]) (rest := []) rfl (lw_S q276 q277 q123 q278) hy_X1_in.2 rfl rfl (Nat.le_of_ble_eq_true rfl) (Nat.le_of_ble_eq_true rfl) (Nat.le_of_ble_eq_true rfl) (kkI (fun r10 m10 E10 hw => ?_))
    have hw := hw E10
    refine x_if_ne HE 22 dX1_bell_13 (by decide) (fun c13 => ?_) (fun c13 => ?_)
    · have hw := hw.1 c13
      refine x_iload_n HE 1 dX1_bell_22 rfl rfl ?_
      refine x_aload_n HE 0 dX1_bell_23 rfl rfl ?_
      refine x_gR HE dX1_bell_24 fd_X1_6 q228 (Or.inl rfl) (Lay_X1.tag (f0.ext (EB.tr E10))) rfl ?_
      obtain ⟨v27, hw⟩ := hw
      refine x_gI HE dX1_bell_27 fd_X21_24 q1172 (Or.inl rfl) (Lay_X21.tag v27) rfl ?_
      refine x_sipush HE dX1_bell_30 (by decide) ?_
      refine x_callS HE dX1_bell_33 rfl (fun l => k_X1_in  l hw) (As := [iV x1, iV (hF m10 (hF m10 x0 6) 24), iV 900]) (rest := []) rfl (lw_S q276 q277 q123 q278) hy_X1_in.2 rfl rfl (Nat.le_of_ble_eq_true rfl) (Nat.le_of_ble_eq_true rfl) (Nat.le_of_ble_eq_true rfl) (kkI (fun r33 m33 E33 hw => ?_))
      have hw := hw E33
      refine x_if_ne HE 45 dX1_bell_36 (by decide) (fun c36 => ?_) (fun c36 => ?_)
      · have hw := hw.1 c36
        refine x_aload_n HE 0 dX1_bell_45 rfl rfl ?_
        refine x_callV HE dX1_bell_46 rfl (fun l => k_X1_tries (f0.ext (EB.tr (E10.tr E33))) l hw) (As := []) (rest := []) rfl xc11 (Lay_X1.tag (f0.ext (EB.tr (E10.tr E33)))) (lw_V q1475 q1477 qs38 q123 q1478) hy_X1_tries rfl rfl (Nat.le_of_ble_eq_true rfl) (Nat.le_of_ble_eq_true rfl) (Nat.le_of_ble_eq_true rfl) (kkR (fun r46 m46 E46 hw => ?_))
        have hw := hw E46
        refine x_astore_n HE 3 (lo' := [some (rV x0), some (iV x1), some (iV x2), some (rV r46)]) dX1_bell_49 rfl (Nat.le_of_ble_eq_true rfl) rfl ?_
        refine x_aload_n HE 3 dX1_bell_50 rfl rfl ?_
        refine x_iload_n HE 1 dX1_bell_51 rfl rfl ?_
        obtain ⟨v52, hw⟩ := hw
        refine x_pI HE dX1_bell_52 fd_X21_26 q1176 (Or.inl rfl) (Or.inl rfl) (nf_int _) (Lay_X21.tag v52) (nro (by decide)) (Or.inl nf_X21_26) (fun m52 em52 E52 => ?_)
        have hw := hw m52 em52
        refine x_aload_n HE 0 dX1_bell_55 rfl rfl ?_
        refine x_aload_n HE 3 dX1_bell_56 rfl rfl ?_
        refine x_callV HE dX1_bell_57 rfl (fun l => k_X21_evening (v52.ext E52) l hw) (As := []) (rest := [rV x0]) rfl xc13 (Lay_X21.tag (v52.ext E52)) (lw_V q1390 q1391 q1392 q157 q1393) hy_X21_evening rfl rfl (Nat.le_of_ble_eq_true rfl) (Nat.le_of_ble_eq_true rfl) (Nat.le_of_ble_eq_true rfl) (kkR (fun r57 m57 E57 hw => ?_))
        have hw := hw E57
        refine x_iload_n HE 2 dX1_bell_60 rfl rfl ?_
        obtain ⟨u61_0, hw⟩ := hw
        refine x_callV HE dX1_bell_61 rfl (fun l => k_X21_sum u61_0 l hw) (As := [iV x2]) (rest := [rV x0]) rfl xc13 (Lay_X21.tag u61_0) (lw_V q1449 q1450 q1451 q157 q1452) hy_X21_sum rfl rfl (Nat.le_of_ble_eq_true rfl) (Nat.le_of_ble_eq_true rfl) (Nat.le_of_ble_eq_true rfl) (kkI (fun r61 m61 E61 hw => ?_))
        have hw := hw E61
        refine x_callV HE dX1_bell_64 rfl (fun l => k_X1_well (f0.ext (EB.tr (E10.tr (E33.tr (E46.tr (E52.tr (E57.tr E61))))))) l hw) (As := [iV r61]) (rest := []) rfl xc11 (Lay_X1.tag (f0.ext (EB.tr (E10.tr (E33.tr (E46.tr (E52.tr (E57.tr E61)))))))) (lw_V q1253 q1255 qs26 q123 q1256) hy_X1_well rfl rfl (Nat.le_of_ble_eq_true rfl) (Nat.le_of_ble_eq_true rfl) (Nat.le_of_ble_eq_true rfl) (kkI (fun r64 m64 E64 hw => ?_))
        have hw := hw E64
        exact x_iret HE hr dX1_bell_67 hw
      · have hw := hw.2 c36
        refine x_aload_n HE 0 dX1_bell_39 rfl rfl ?_
        refine x_iconst HE dX1_bell_40 (by decide) ?_
        refine x_callV HE dX1_bell_41 rfl (fun l => k_X1_refused (f0.ext (EB.tr (E10.tr E33))) l hw) (As := [iV 2]) (rest := []) rfl xc11 (Lay_X1.tag (f0.ext (EB.tr (E10.tr E33)))) (lw_V q279 q281 qs0 q123 q282) hy_X1_refused rfl rfl (Nat.le_of_ble_eq_true rfl) (Nat.le_of_ble_eq_true rfl) (Nat.le_of_ble_eq_true rfl) (kkI (fun r41 m41 E41 hw => ?_))
        have hw := hw E41
        exact x_iret HE hr dX1_bell_44 hw
    · have hw := hw.2 c13
      exact w_X1_bell_16 HE hr f0 hw
theorem k_X1_bell {G : GT} {x0 x1 x2 : Int} {Q : Int → Hp → Prop} {h : Hp} (f0 : Lay_X1 h x0) (l : Launch) (hw : g_X1_bell x0 x1 x2 Q h) : XM G l yX1_bell cX1_bell 4 (some .int) 9 198 [rV x0, iV x1, iV x2] (QI Q) h :=
  XM.of (by decide) (Nat.le_of_ble_eq_true rfl) (fun X HE hr hn => w_X1_bell_0 HE hr f0 hw)
def g_X1_waitingAt (x0 x1 : Int) (Q : Int → Hp → Prop) (h : Hp) : Prop :=
  ((0 < (hF h x0 5)) → ((Lay_X21 h (hF h x0 6)) ∧ ((Lay_X7 h (hF h x0 5)) ∧ (g_X1_in x1 (hF h (hF h x0 6) 24) (hF h (hF h x0 5) 1) (fun r28 m28 => Ext h m28 → (((r28 ≠ 0) → (g_X1_tries x0 (fun r41 m41 => Ext m28 m41 → ((Lay_X21 m41 r41) ∧ (∀ m47 : Hp, m47 = setF m41 r41 26 x1 → (g_X21_evening r41 (fun r52 m52 => Ext m47 m52 → ((Lay_X21 m52 r52) ∧ (g_X21_sum r52 2 (fun r56 m56 => Ext m52 m56 → (g_X1_well x0 r56 (fun r59 m59 => Ext m56 m59 → (Q r59 m59)) m56)) m52))) m47)))) m28)) ∧ ((r28 = 0) → (g_X1_refused x0 2 (fun r36 m36 => Ext m28 m36 → (Q r36 m36)) m28)))) h)))) ∧ (((hF h x0 5) = 0) → (g_X1_refused x0 1 (fun r9 m9 => Ext h m9 → (Q r9 m9)) h))
theorem w_X1_waitingAt_0 {G : GT} {X : ET} {h0 : Hp} {x0 x1 : Int} (HE : XE G X cX1_waitingAt 3 RX1 9 198 h0) (hr : XR X (some .int)) (f0 : Lay_X1 h0 x0) {Q : Int → Hp → Prop} {h : Hp} (hw : g_X1_waitingAt x0 x1 Q h) : Wx G X h0 (QI Q) h 0 [some (rV x0), some (iV x1), none] [] := by
  refine Wx.start (fun EB => ?_)
  unfold g_X1_waitingAt at hw
  refine x_aload_n HE 0 dX1_waitingAt_0 rfl rfl ?_
  refine x_gR HE dX1_waitingAt_1 fd_X1_5 q227 (Or.inl rfl) (Lay_X1.tag (f0.ext EB)) rfl ?_
  refine x_ifnonnull HE 13 dX1_waitingAt_4 (by decide) (fun c4 => ?_) (fun c4 => ?_)
  · have hw := hw.1 c4
    refine x_iload_n HE 1 dX1_waitingAt_13 rfl rfl ?_
    refine x_aload_n HE 0 dX1_waitingAt_14 rfl rfl ?_
    refine x_gR HE dX1_waitingAt_15 fd_X1_6 q228 (Or.inl rfl) (Lay_X1.tag (f0.ext EB)) rfl ?_
    obtain ⟨v18, hw⟩ := hw
    refine x_gI HE dX1_waitingAt_18 fd_X21_24 q1172 (Or.inl rfl) (Lay_X21.tag v18) rfl ?_
    refine x_aload_n HE 0 dX1_waitingAt_21 rfl rfl ?_
    refine x_gR HE dX1_waitingAt_22 fd_X1_5 q227 (Or.inl rfl) (Lay_X1.tag (f0.ext EB)) rfl ?_
    obtain ⟨v25, hw⟩ := hw
    refine x_gI HE dX1_waitingAt_25 fd_X7_1 q317 (Or.inl rfl) (Lay_X7.tag v25) rfl ?_
    refine x_callS HE dX1_waitingAt_28 rfl (fun l => k_X1_in  l hw) (As := [iV x1, iV (hF h (hF h x0 6) 24), iV (hF h (hF h x0 5) 1)]) (rest := []) rfl (lw_S q276 q277 q123 q278) hy_X1_in.2 rfl rfl (Nat.le_of_ble_eq_true rfl) (Nat.le_of_ble_eq_true rfl) (Nat.le_of_ble_eq_true rfl) (kkI (fun r28 m28 E28 hw => ?_))
    have hw := hw E28
    refine x_if_ne HE 40 dX1_waitingAt_31 (by decide) (fun c31 => ?_) (fun c31 => ?_)
    · have hw := hw.1 c31
      refine x_aload_n HE 0 dX1_waitingAt_40 rfl rfl ?_
      refine x_callV HE dX1_waitingAt_41 rfl (fun l => k_X1_tries (f0.ext (EB.tr E28)) l hw) (As := []) (rest := []) rfl xc11 (Lay_X1.tag (f0.ext (EB.tr E28))) (lw_V q1475 q1477 qs38 q123 q1478) hy_X1_tries rfl rfl (Nat.le_of_ble_eq_true rfl) (Nat.le_of_ble_eq_true rfl) (Nat.le_of_ble_eq_true rfl) (kkR (fun r41 m41 E41 hw => ?_))
      have hw := hw E41
      refine x_astore_n HE 2 (lo' := [some (rV x0), some (iV x1), some (rV r41)]) dX1_waitingAt_44 rfl (Nat.le_of_ble_eq_true rfl) rfl ?_
      refine x_aload_n HE 2 dX1_waitingAt_45 rfl rfl ?_
      refine x_iload_n HE 1 dX1_waitingAt_46 rfl rfl ?_
      obtain ⟨v47, hw⟩ := hw
      refine x_pI HE dX1_waitingAt_47 fd_X21_26 q1176 (Or.inl rfl) (Or.inl rfl) (nf_int _) (Lay_X21.tag v47) (nro (by decide)) (Or.inl nf_X21_26) (fun m47 em47 E47 => ?_)
      have hw := hw m47 em47
      refine x_aload_n HE 0 dX1_waitingAt_50 rfl rfl ?_
      refine x_aload_n HE 2 dX1_waitingAt_51 rfl rfl ?_
      refine x_callV HE dX1_waitingAt_52 rfl (fun l => k_X21_evening (v47.ext E47) l hw) (As := []) (rest := [rV x0]) rfl xc13 (Lay_X21.tag (v47.ext E47)) (lw_V q1390 q1391 q1392 q157 q1393) hy_X21_evening rfl rfl (Nat.le_of_ble_eq_true rfl) (Nat.le_of_ble_eq_true rfl) (Nat.le_of_ble_eq_true rfl) (kkR (fun r52 m52 E52 hw => ?_))
      have hw := hw E52
      refine x_iconst HE dX1_waitingAt_55 (by decide) ?_
      obtain ⟨u56_0, hw⟩ := hw
      refine x_callV HE dX1_waitingAt_56 rfl (fun l => k_X21_sum u56_0 l hw) (As := [iV 2]) (rest := [rV x0]) rfl xc13 (Lay_X21.tag u56_0) (lw_V q1449 q1450 q1451 q157 q1452) hy_X21_sum rfl rfl (Nat.le_of_ble_eq_true rfl) (Nat.le_of_ble_eq_true rfl) (Nat.le_of_ble_eq_true rfl) (kkI (fun r56 m56 E56 hw => ?_))
      have hw := hw E56
      refine x_callV HE dX1_waitingAt_59 rfl (fun l => k_X1_well (f0.ext (EB.tr (E28.tr (E41.tr (E47.tr (E52.tr E56)))))) l hw) (As := [iV r56]) (rest := []) rfl xc11 (Lay_X1.tag (f0.ext (EB.tr (E28.tr (E41.tr (E47.tr (E52.tr E56))))))) (lw_V q1253 q1255 qs26 q123 q1256) hy_X1_well rfl rfl (Nat.le_of_ble_eq_true rfl) (Nat.le_of_ble_eq_true rfl) (Nat.le_of_ble_eq_true rfl) (kkI (fun r59 m59 E59 hw => ?_))
      have hw := hw E59
      exact x_iret HE hr dX1_waitingAt_62 hw
    · have hw := hw.2 c31
      refine x_aload_n HE 0 dX1_waitingAt_34 rfl rfl ?_
      refine x_iconst HE dX1_waitingAt_35 (by decide) ?_
      refine x_callV HE dX1_waitingAt_36 rfl (fun l => k_X1_refused (f0.ext (EB.tr E28)) l hw) (As := [iV 2]) (rest := []) rfl xc11 (Lay_X1.tag (f0.ext (EB.tr E28))) (lw_V q279 q281 qs0 q123 q282) hy_X1_refused rfl rfl (Nat.le_of_ble_eq_true rfl) (Nat.le_of_ble_eq_true rfl) (Nat.le_of_ble_eq_true rfl) (kkI (fun r36 m36 E36 hw => ?_))
      have hw := hw E36
      exact x_iret HE hr dX1_waitingAt_39 hw
  · have hw := hw.2 c4
    refine x_aload_n HE 0 dX1_waitingAt_7 rfl rfl ?_
    refine x_iconst HE dX1_waitingAt_8 (by decide) ?_
    refine x_callV HE dX1_waitingAt_9 rfl (fun l => k_X1_refused (f0.ext EB) l hw) (As := [iV 1]) (rest := []) rfl xc11 (Lay_X1.tag (f0.ext EB)) (lw_V q279 q281 qs0 q123 q282) hy_X1_refused rfl rfl (Nat.le_of_ble_eq_true rfl) (Nat.le_of_ble_eq_true rfl) (Nat.le_of_ble_eq_true rfl) (kkI (fun r9 m9 E9 hw => ?_))
    have hw := hw E9
    exact x_iret HE hr dX1_waitingAt_12 hw
theorem k_X1_waitingAt {G : GT} {x0 x1 : Int} {Q : Int → Hp → Prop} {h : Hp} (f0 : Lay_X1 h x0) (l : Launch) (hw : g_X1_waitingAt x0 x1 Q h) : XM G l yX1_waitingAt cX1_waitingAt 3 (some .int) 9 198 [rV x0, iV x1] (QI Q) h :=
  XM.of (by decide) (Nat.le_of_ble_eq_true rfl) (fun X HE hr hn => w_X1_waitingAt_0 HE hr f0 hw)
def g_X1_refusesSet_b38 (x0 x1 : Int) (Q : Int → Hp → Prop) (s0 : Int) (h : Hp) : Prop :=
  Q s0 h
theorem w_X1_refusesSet_38 {G : GT} {X : ET} {h0 : Hp} {x0 x1 : Int} (HE : XE G X cX1_refusesSet 2 RX1 1 22 h0) (hr : XR X (some .int)) (f0 : Lay_X1 h0 x0) {Q : Int → Hp → Prop} {s0 : Int} {h : Hp} (hw : g_X1_refusesSet_b38 x0 x1 Q s0 h) : Wx G X h0 (QI Q) h 38 [some (rV x0), some (iV x1)] [iV s0] := by
  refine Wx.start (fun EB => ?_)
  unfold g_X1_refusesSet_b38 at hw
  exact x_iret HE hr dX1_refusesSet_38 hw
def g_X1_refusesSet (x0 x1 : Int) (Q : Int → Hp → Prop) (h : Hp) : Prop :=
  ((0 < (hF h x0 5)) → ((Lay_X7 h (hF h x0 5)) ∧ (g_J2_size ((hF h x0 5) + 3) (fun r21 m21 => Ext h m21 → ((i32 ((bShl 1 r21) - 1)) ∧ (g_X1_in x1 0 ((bShl 1 r21) - 1) (fun r27 m27 => Ext m21 m27 → (((r27 = 0) → (g_X1_refusesSet_b38 x0 x1 Q 2 m27)) ∧ ((r27 ≠ 0) → (g_X1_refusesSet_b38 x0 x1 Q 0 m27)))) m21))) h))) ∧ (((hF h x0 5) = 0) → (g_X1_refusesSet_b38 x0 x1 Q 1 h))
theorem w_X1_refusesSet_0 {G : GT} {X : ET} {h0 : Hp} {x0 x1 : Int} (HE : XE G X cX1_refusesSet 2 RX1 1 22 h0) (hr : XR X (some .int)) (f0 : Lay_X1 h0 x0) {Q : Int → Hp → Prop} {h : Hp} (hw : g_X1_refusesSet x0 x1 Q h) : Wx G X h0 (QI Q) h 0 [some (rV x0), some (iV x1)] [] := by
  refine Wx.start (fun EB => ?_)
  unfold g_X1_refusesSet at hw
  refine x_aload_n HE 0 dX1_refusesSet_0 rfl rfl ?_
  refine x_gR HE dX1_refusesSet_1 fd_X1_5 q227 (Or.inl rfl) (Lay_X1.tag (f0.ext EB)) rfl ?_
  refine x_ifnonnull HE 11 dX1_refusesSet_4 (by decide) (fun c4 => ?_) (fun c4 => ?_)
  · have hw := hw.1 c4
    refine x_iload_n HE 1 dX1_refusesSet_11 rfl rfl ?_
    refine x_iconst HE dX1_refusesSet_12 (by decide) ?_
    refine x_iconst HE dX1_refusesSet_13 (by decide) ?_
    refine x_aload_n HE 0 dX1_refusesSet_14 rfl rfl ?_
    refine x_gR HE dX1_refusesSet_15 fd_X1_5 q227 (Or.inl rfl) (Lay_X1.tag (f0.ext EB)) rfl ?_
    obtain ⟨v18, hw⟩ := hw
    refine x_gR HE dX1_refusesSet_18 fd_X7_5 q331 (Or.inl rfl) (Lay_X7.tag v18) (Lay_X7_5 v18).1 ?_
    refine x_callV HE dX1_refusesSet_21 rfl (fun l => k_J2_size ((Lay_X7_5 v18).2) l hw) (As := []) (rest := [iV 1, iV 0, iV x1]) rfl xc32 ((Lay_X7_5 v18).2) (lw_V q1252 q708 q709 q128 q710) hy_J2_size rfl rfl (Nat.le_of_ble_eq_true rfl) (Nat.le_of_ble_eq_true rfl) (Nat.le_of_ble_eq_true rfl) (kkI (fun r21 m21 E21 hw => ?_))
    have hw := hw E21
    refine x_ishl HE dX1_refusesSet_24 ?_
    refine x_iconst HE dX1_refusesSet_25 (by decide) ?_
    obtain ⟨v26, hw⟩ := hw
    refine x_isub HE dX1_refusesSet_26 v26 ?_
    refine x_callS HE dX1_refusesSet_27 rfl (fun l => k_X1_in  l hw) (As := [iV x1, iV 0, iV ((bShl 1 r21) - 1)]) (rest := []) rfl (lw_S q276 q277 q123 q278) hy_X1_in.2 rfl rfl (Nat.le_of_ble_eq_true rfl) (Nat.le_of_ble_eq_true rfl) (Nat.le_of_ble_eq_true rfl) (kkI (fun r27 m27 E27 hw => ?_))
    have hw := hw E27
    refine x_if_eq HE 37 dX1_refusesSet_30 (by decide) (fun c30 => ?_) (fun c30 => ?_)
    · have hw := hw.1 c30
      refine x_iconst HE dX1_refusesSet_37 (by decide) ?_
      exact w_X1_refusesSet_38 HE hr f0 hw
    · have hw := hw.2 c30
      refine x_iconst HE dX1_refusesSet_33 (by decide) ?_
      refine x_goto HE 38 dX1_refusesSet_34 (by decide) ?_
      exact w_X1_refusesSet_38 HE hr f0 hw
  · have hw := hw.2 c4
    refine x_iconst HE dX1_refusesSet_7 (by decide) ?_
    refine x_goto HE 38 dX1_refusesSet_8 (by decide) ?_
    exact w_X1_refusesSet_38 HE hr f0 hw
theorem k_X1_refusesSet {G : GT} {x0 x1 : Int} {Q : Int → Hp → Prop} {h : Hp} (f0 : Lay_X1 h x0) (l : Launch) (hw : g_X1_refusesSet x0 x1 Q h) : XM G l yX1_refusesSet cX1_refusesSet 2 (some .int) 1 22 [rV x0, iV x1] (QI Q) h :=
  XM.of (by decide) (Nat.le_of_ble_eq_true rfl) (fun X HE hr hn => w_X1_refusesSet_0 HE hr f0 hw)
def g_X1_lied_b60 (x0 x1 : Int) (Q : Int → Hp → Prop) (h : Hp) : Prop :=
  (Lay_X21 h (hF h x0 9)) ∧ (g_X21_evening (hF h x0 9) (fun r64 m64 => Ext h m64 → (Q r64 m64)) h)
theorem w_X1_lied_60 {G : GT} {X : ET} {h0 : Hp} {x0 x1 : Int} (HE : XE G X cX1_lied 3 RX1 9 198 h0) (hr : XR X (some (.object "NextAtBar$Ba\x72"))) (f0 : Lay_X1 h0 x0) {Q : Int → Hp → Prop} {h : Hp} (hw : g_X1_lied_b60 x0 x1 Q  h) : Wx G X h0 (QR Q) h 60 [some (rV x0), some (iV x1), none] [] := by
  refine Wx.start (fun EB => ?_)
  unfold g_X1_lied_b60 at hw
  refine x_aload_n HE 0 dX1_lied_60 rfl rfl ?_
  refine x_gR HE dX1_lied_61 fd_X1_9 q231 (Or.inl rfl) (Lay_X1.tag (f0.ext EB)) rfl ?_
  obtain ⟨u64_0, hw⟩ := hw
  refine x_callV HE dX1_lied_64 rfl (fun l => k_X21_evening u64_0 l hw) (As := []) (rest := []) rfl xc13 (Lay_X21.tag u64_0) (lw_V q1390 q1391 q1392 q157 q1393) hy_X21_evening rfl rfl (Nat.le_of_ble_eq_true rfl) (Nat.le_of_ble_eq_true rfl) (Nat.le_of_ble_eq_true rfl) (kkR (fun r64 m64 E64 hw => ?_))
  have hw := hw E64
  exact x_aret HE hr (Or.inl ⟨_, rfl⟩) dX1_lied_67 hw
def g_X1_lied_b51 (x0 x1 : Int) (Q : Int → Hp → Prop) (K13 : Int → Hp → Prop) (l2 s0 s1 s2 : Int) (h : Hp) : Prop :=
  (Lay_X21 h s0) ∧ (g_X21_takesManner s0 s1 s2 (fun m51 => Ext h m51 → ((i32 (l2 + 1)) ∧ (∀ y54 : Int, y54 = l2 + 1 → (K13 y54 m51)))) h)
theorem w_X1_lied_51 {G : GT} {X : ET} {h0 : Hp} {x0 x1 : Int} (HE : XE G X cX1_lied 3 RX1 9 198 h0) (hr : XR X (some (.object "NextAtBar$Ba\x72"))) (f0 : Lay_X1 h0 x0) {Q : Int → Hp → Prop} {K13 : Int → Hp → Prop} (hK13 : ∀ (l2 : Int) (h : Hp), K13 l2 h → Wx G X h0 (QR Q) h 13 [some (rV x0), some (iV x1), some (iV l2)] []) {l2 s0 s1 s2 : Int} {h : Hp} (hw : g_X1_lied_b51 x0 x1 Q K13 l2 s0 s1 s2 h) : Wx G X h0 (QR Q) h 51 [some (rV x0), some (iV x1), some (iV l2)] [rV s2, iV s1, rV s0] := by
  refine Wx.start (fun EB => ?_)
  unfold g_X1_lied_b51 at hw
  obtain ⟨u51_0, hw⟩ := hw
  refine x_callV HE dX1_lied_51 rfl (fun l => k_X21_takesManner u51_0 l hw) (As := [iV s1, rV s2]) (rest := []) rfl xc13 (Lay_X21.tag u51_0) (lw_V q1512 q1090 q1091 q157 q1092) hy_X21_takesManner rfl rfl (Nat.le_of_ble_eq_true rfl) (Nat.le_of_ble_eq_true rfl) (Nat.le_of_ble_eq_true rfl) (kkV (fun m51 E51 hw => ?_))
  have hw := hw E51
  obtain ⟨v54, hw⟩ := hw
  refine x_iincN HE (fun y54 => [some (rV x0), some (iV x1), some (iV y54)]) dX1_lied_54 rfl v54 (Nat.le_of_ble_eq_true rfl) (fun _ => rfl) (fun y54 ey54 => ?_)
  have hw := hw y54 ey54
  refine x_goto HE 13 dX1_lied_57 (by decide) ?_
  exact hK13 _ _ hw
def g_X1_lied_L13 (x0 x1 : Int) (Q : Int → Hp → Prop) (K13 : Int → Hp → Prop) (l2 : Int) (h : Hp) : Prop :=
  (Lay_X7 h (hF h x0 5)) ∧ (g_J2_size ((hF h x0 5) + 3) (fun r21 m21 => Ext h m21 → (((r21 ≤ l2) → (g_X1_lied_b60 x0 x1 Q m21)) ∧ ((l2 < r21) → (g_X1_holds x1 l2 (fun r34 m34 => Ext m21 m34 → (((r34 = 0) → (g_X1_lied_b51 x0 x1 Q K13 l2 (hF m21 x0 9) l2 (x0 + 2) m34)) ∧ ((r34 ≠ 0) → (g_X1_lied_b51 x0 x1 Q K13 l2 (hF m21 x0 9) l2 (x0 + 3) m34)))) m21)))) h)
theorem w_X1_lied_13 {G : GT} {X : ET} {h0 : Hp} {x0 x1 : Int} (HE : XE G X cX1_lied 3 RX1 9 198 h0) (hr : XR X (some (.object "NextAtBar$Ba\x72"))) (f0 : Lay_X1 h0 x0) {Q : Int → Hp → Prop} {K13 : Int → Hp → Prop} (hK13 : ∀ (l2 : Int) (h : Hp), K13 l2 h → Wx G X h0 (QR Q) h 13 [some (rV x0), some (iV x1), some (iV l2)] []) {l2 : Int} {h : Hp} (hw : g_X1_lied_L13 x0 x1 Q K13 l2 h) : Wx G X h0 (QR Q) h 13 [some (rV x0), some (iV x1), some (iV l2)] [] := by
  refine Wx.start (fun EB => ?_)
  unfold g_X1_lied_L13 at hw
  refine x_iload_n HE 2 dX1_lied_13 rfl rfl ?_
  refine x_aload_n HE 0 dX1_lied_14 rfl rfl ?_
  refine x_gR HE dX1_lied_15 fd_X1_5 q227 (Or.inl rfl) (Lay_X1.tag (f0.ext EB)) rfl ?_
  obtain ⟨v18, hw⟩ := hw
  refine x_gR HE dX1_lied_18 fd_X7_5 q331 (Or.inl rfl) (Lay_X7.tag v18) (Lay_X7_5 v18).1 ?_
  refine x_callV HE dX1_lied_21 rfl (fun l => k_J2_size ((Lay_X7_5 v18).2) l hw) (As := []) (rest := [iV l2]) rfl xc32 ((Lay_X7_5 v18).2) (lw_V q1252 q708 q709 q128 q710) hy_J2_size rfl rfl (Nat.le_of_ble_eq_true rfl) (Nat.le_of_ble_eq_true rfl) (Nat.le_of_ble_eq_true rfl) (kkI (fun r21 m21 E21 hw => ?_))
  have hw := hw E21
  refine x_ic_ge HE 60 dX1_lied_24 (by decide) (fun c24 => ?_) (fun c24 => ?_)
  · have hw := hw.1 c24
    refine Wx.mask [true, true, false] (lo2 := [some (rV x0), some (iV x1), none]) rfl ?_
    exact w_X1_lied_60 HE hr f0 hw
  · have hw := hw.2 c24
    refine x_aload_n HE 0 dX1_lied_27 rfl rfl ?_
    refine x_gR HE dX1_lied_28 fd_X1_9 q231 (Or.inl rfl) (Lay_X1.tag (f0.ext (EB.tr E21))) rfl ?_
    refine x_iload_n HE 2 dX1_lied_31 rfl rfl ?_
    refine x_iload_n HE 1 dX1_lied_32 rfl rfl ?_
    refine x_iload_n HE 2 dX1_lied_33 rfl rfl ?_
    refine x_callS HE dX1_lied_34 rfl (fun l => k_X1_holds  l hw) (As := [iV x1, iV l2]) (rest := [iV l2, rV (hF m21 x0 9)]) rfl (lw_S q1569 q1570 q123 q1571) hy_X1_holds.2 rfl rfl (Nat.le_of_ble_eq_true rfl) (Nat.le_of_ble_eq_true rfl) (Nat.le_of_ble_eq_true rfl) (kkI (fun r34 m34 E34 hw => ?_))
    have hw := hw E34
    refine x_if_eq HE 47 dX1_lied_37 (by decide) (fun c37 => ?_) (fun c37 => ?_)
    · have hw := hw.1 c37
      refine x_aload_n HE 0 dX1_lied_47 rfl rfl ?_
      refine x_gR HE dX1_lied_48 fd_X1_11 q233 (Or.inl rfl) (Lay_X1.tag (f0.ext (EB.tr (E21.tr E34)))) (Lay_X1_11 (f0.ext (EB.tr (E21.tr E34)))).1 ?_
      exact w_X1_lied_51 HE hr f0 hK13 hw
    · have hw := hw.2 c37
      refine x_aload_n HE 0 dX1_lied_40 rfl rfl ?_
      refine x_gR HE dX1_lied_41 fd_X1_12 q234 (Or.inl rfl) (Lay_X1.tag (f0.ext (EB.tr (E21.tr E34)))) (Lay_X1_12 (f0.ext (EB.tr (E21.tr E34)))).1 ?_
      refine x_goto HE 51 dX1_lied_44 (by decide) ?_
      exact w_X1_lied_51 HE hr f0 hK13 hw
theorem wl_X1_lied_13 {G : GT} {X : ET} {h0 : Hp} {x0 x1 : Int} (HE : XE G X cX1_lied 3 RX1 9 198 h0) (hr : XR X (some (.object "NextAtBar$Ba\x72"))) (f0 : Lay_X1 h0 x0) {Q : Int → Hp → Prop} {l2 : Int} {h : Hp} (hw : Lp1 (g_X1_lied_L13 x0 x1 Q) l2 h) : Wx G X h0 (QR Q) h 13 [some (rV x0), some (iV x1), some (iV l2)] [] := by
  obtain ⟨n, hw⟩ := hw
  induction n generalizing l2 h with
  | zero => exact hw.elim
  | succ n ih => exact w_X1_lied_13 HE hr f0 (fun _ _ hk => ih hk) hw
def g_X1_lied (x0 x1 : Int) (Q : Int → Hp → Prop) (h : Hp) : Prop :=
  (Lay_X21 h (hF h x0 9)) ∧ (g_X21_takes (hF h x0 9) (hF h x0 7) (fun m8 => Ext h m8 → (Lp1 (g_X1_lied_L13 x0 x1 Q) 0 m8)) h)
theorem w_X1_lied_0 {G : GT} {X : ET} {h0 : Hp} {x0 x1 : Int} (HE : XE G X cX1_lied 3 RX1 9 198 h0) (hr : XR X (some (.object "NextAtBar$Ba\x72"))) (f0 : Lay_X1 h0 x0) {Q : Int → Hp → Prop} {h : Hp} (hw : g_X1_lied x0 x1 Q h) : Wx G X h0 (QR Q) h 0 [some (rV x0), some (iV x1), none] [] := by
  refine Wx.start (fun EB => ?_)
  unfold g_X1_lied at hw
  refine x_aload_n HE 0 dX1_lied_0 rfl rfl ?_
  refine x_gR HE dX1_lied_1 fd_X1_9 q231 (Or.inl rfl) (Lay_X1.tag (f0.ext EB)) rfl ?_
  refine x_aload_n HE 0 dX1_lied_4 rfl rfl ?_
  refine x_gR HE dX1_lied_5 fd_X1_7 q229 (Or.inl rfl) (Lay_X1.tag (f0.ext EB)) rfl ?_
  obtain ⟨u8_0, hw⟩ := hw
  refine x_callV HE dX1_lied_8 rfl (fun l => k_X21_takes u8_0 l hw) (As := [rV (hF h x0 7)]) (rest := []) rfl xc13 (Lay_X21.tag u8_0) (lw_V q1389 q1240 q1241 q157 q1242) hy_X21_takes rfl rfl (Nat.le_of_ble_eq_true rfl) (Nat.le_of_ble_eq_true rfl) (Nat.le_of_ble_eq_true rfl) (kkV (fun m8 E8 hw => ?_))
  have hw := hw E8
  refine x_iconst HE dX1_lied_11 (by decide) ?_
  refine x_istore_n HE 2 (lo' := [some (rV x0), some (iV x1), some (iV 0)]) dX1_lied_12 rfl (Nat.le_of_ble_eq_true rfl) rfl ?_
  exact wl_X1_lied_13 HE hr f0 hw
theorem k_X1_lied {G : GT} {x0 x1 : Int} {Q : Int → Hp → Prop} {h : Hp} (f0 : Lay_X1 h x0) (l : Launch) (hw : g_X1_lied x0 x1 Q h) : XM G l yX1_lied cX1_lied 3 (some (.object "NextAtBar$Ba\x72")) 9 198 [rV x0, iV x1] (QR Q) h :=
  XM.of (by decide) (Nat.le_of_ble_eq_true rfl) (fun X HE hr hn => w_X1_lied_0 HE hr f0 hw)
def g_X1_honesty_b76 (x0 x1 x2 : Int) (Q : Int → Hp → Prop) (l5 : Int) (h : Hp) : Prop :=
  g_X1_well x0 l5 (fun r79 m79 => Ext h m79 → (Q r79 m79)) h
theorem w_X1_honesty_76 {G : GT} {X : ET} {h0 : Hp} {x0 x1 x2 : Int} (HE : XE G X cX1_honesty 7 RX1 10 220 h0) (hr : XR X (some .int)) (f0 : Lay_X1 h0 x0) {Q : Int → Hp → Prop} {l5 : Int} {h : Hp} (hw : g_X1_honesty_b76 x0 x1 x2 Q l5 h) : Wx G X h0 (QI Q) h 76 [some (rV x0), some (iV x1), some (iV x2), none, none, some (iV l5), none] [] := by
  refine Wx.start (fun EB => ?_)
  unfold g_X1_honesty_b76 at hw
  refine x_aload_n HE 0 dX1_honesty_76 rfl rfl ?_
  refine x_iload HE dX1_honesty_77 rfl ?_
  refine x_callV HE dX1_honesty_79 rfl (fun l => k_X1_well (f0.ext EB) l hw) (As := [iV l5]) (rest := []) rfl xc11 (Lay_X1.tag (f0.ext EB)) (lw_V q1253 q1255 qs26 q123 q1256) hy_X1_well rfl rfl (Nat.le_of_ble_eq_true rfl) (Nat.le_of_ble_eq_true rfl) (Nat.le_of_ble_eq_true rfl) (kkI (fun r79 m79 E79 hw => ?_))
  have hw := hw E79
  exact x_iret HE hr dX1_honesty_82 hw
def g_X1_honesty_b67 (x0 x1 x2 : Int) (Q : Int → Hp → Prop) (K29 : Int → Int → Int → Hp → Prop) (l4 l6 s0 s1 : Int) (h : Hp) : Prop :=
  (i32 (s0 + s1)) ∧ (∀ y68 : Int, y68 = (s0 + s1) → ((i32 (l6 + 1)) ∧ (∀ y70 : Int, y70 = l6 + 1 → (K29 l4 y68 y70 h))))
theorem w_X1_honesty_67 {G : GT} {X : ET} {h0 : Hp} {x0 x1 x2 : Int} (HE : XE G X cX1_honesty 7 RX1 10 220 h0) (hr : XR X (some .int)) (f0 : Lay_X1 h0 x0) {Q : Int → Hp → Prop} {K29 : Int → Int → Int → Hp → Prop} (hK29 : ∀ (l4 l5 l6 : Int) (h : Hp), K29 l4 l5 l6 h → Wx G X h0 (QI Q) h 29 [some (rV x0), some (iV x1), some (iV x2), none, some (rV l4), some (iV l5), some (iV l6)] []) {l4 l6 s0 s1 : Int} {h : Hp} (hw : g_X1_honesty_b67 x0 x1 x2 Q K29 l4 l6 s0 s1 h) : Wx G X h0 (QI Q) h 67 [some (rV x0), some (iV x1), some (iV x2), none, some (rV l4), none, some (iV l6)] [iV s1, iV s0] := by
  refine Wx.start (fun EB => ?_)
  unfold g_X1_honesty_b67 at hw
  obtain ⟨v67, hw⟩ := hw
  refine x_iadd HE dX1_honesty_67 v67 ?_
  refine x_istoreN HE (fun y68 => [some (rV x0), some (iV x1), some (iV x2), none, some (rV l4), some (iV y68), some (iV l6)]) dX1_honesty_68 (Nat.le_of_ble_eq_true rfl) (fun _ => rfl) (fun y68 ey68 => ?_)
  have hw := hw y68 ey68
  obtain ⟨v70, hw⟩ := hw
  refine x_iincN HE (fun y70 => [some (rV x0), some (iV x1), some (iV x2), none, some (rV l4), some (iV y68), some (iV y70)]) dX1_honesty_70 rfl v70 (Nat.le_of_ble_eq_true rfl) (fun _ => rfl) (fun y70 ey70 => ?_)
  have hw := hw y70 ey70
  refine x_goto HE 29 dX1_honesty_73 (by decide) ?_
  exact hK29 _ _ _ _ hw
def g_X1_honesty_L29 (x0 x1 x2 : Int) (Q : Int → Hp → Prop) (K29 : Int → Int → Int → Hp → Prop) (l4 l5 l6 : Int) (h : Hp) : Prop :=
  (Lay_X7 h (hF h x0 5)) ∧ (g_J2_size ((hF h x0 5) + 3) (fun r38 m38 => Ext h m38 → (((r38 ≤ l6) → (g_X1_honesty_b76 x0 x1 x2 Q l5 m38)) ∧ ((l6 < r38) → (g_X1_holds x1 l6 (fun r49 m49 => Ext m38 m49 → (((r49 = x2) → (g_X1_honesty_b67 x0 x1 x2 Q K29 l4 l6 l5 0 m49)) ∧ ((r49 ≠ x2) → ((Lay_X21 m49 l4) ∧ (g_X21_waits l4 l6 (fun r60 m60 => Ext m49 m60 → (g_X1_honesty_b67 x0 x1 x2 Q K29 l4 l6 l5 r60 m60)) m49))))) m38)))) h)
theorem w_X1_honesty_29 {G : GT} {X : ET} {h0 : Hp} {x0 x1 x2 : Int} (HE : XE G X cX1_honesty 7 RX1 10 220 h0) (hr : XR X (some .int)) (f0 : Lay_X1 h0 x0) {Q : Int → Hp → Prop} {K29 : Int → Int → Int → Hp → Prop} (hK29 : ∀ (l4 l5 l6 : Int) (h : Hp), K29 l4 l5 l6 h → Wx G X h0 (QI Q) h 29 [some (rV x0), some (iV x1), some (iV x2), none, some (rV l4), some (iV l5), some (iV l6)] []) {l4 l5 l6 : Int} {h : Hp} (hw : g_X1_honesty_L29 x0 x1 x2 Q K29 l4 l5 l6 h) : Wx G X h0 (QI Q) h 29 [some (rV x0), some (iV x1), some (iV x2), none, some (rV l4), some (iV l5), some (iV l6)] [] := by
  refine Wx.start (fun EB => ?_)
  unfold g_X1_honesty_L29 at hw
  refine x_iload HE dX1_honesty_29 rfl ?_
  refine x_aload_n HE 0 dX1_honesty_31 rfl rfl ?_
  refine x_gR HE dX1_honesty_32 fd_X1_5 q227 (Or.inl rfl) (Lay_X1.tag (f0.ext EB)) rfl ?_
  obtain ⟨v35, hw⟩ := hw
  refine x_gR HE dX1_honesty_35 fd_X7_5 q331 (Or.inl rfl) (Lay_X7.tag v35) (Lay_X7_5 v35).1 ?_
  refine x_callV HE dX1_honesty_38 rfl (fun l => k_J2_size ((Lay_X7_5 v35).2) l hw) (As := []) (rest := [iV l6]) rfl xc32 ((Lay_X7_5 v35).2) (lw_V q1252 q708 q709 q128 q710) hy_J2_size rfl rfl (Nat.le_of_ble_eq_true rfl) (Nat.le_of_ble_eq_true rfl) (Nat.le_of_ble_eq_true rfl) (kkI (fun r38 m38 E38 hw => ?_))
  have hw := hw E38
  refine x_ic_ge HE 76 dX1_honesty_41 (by decide) (fun c41 => ?_) (fun c41 => ?_)
  · have hw := hw.1 c41
    refine Wx.mask [true, true, true, true, false, true, false] (lo2 := [some (rV x0), some (iV x1), some (iV x2), none, none, some (iV l5), none]) rfl ?_
    exact w_X1_honesty_76 HE hr f0 hw
  · have hw := hw.2 c41
    refine x_iload HE dX1_honesty_44 rfl ?_
    refine x_iload_n HE 1 dX1_honesty_46 rfl rfl ?_
    refine x_iload HE dX1_honesty_47 rfl ?_
    refine x_callS HE dX1_honesty_49 rfl (fun l => k_X1_holds  l hw) (As := [iV x1, iV l6]) (rest := [iV l5]) rfl (lw_S q1569 q1570 q123 q1571) hy_X1_holds.2 rfl rfl (Nat.le_of_ble_eq_true rfl) (Nat.le_of_ble_eq_true rfl) (Nat.le_of_ble_eq_true rfl) (kkI (fun r49 m49 E49 hw => ?_))
    have hw := hw E49
    refine x_iload_n HE 2 dX1_honesty_52 rfl rfl ?_
    refine x_ic_eq HE 66 dX1_honesty_53 (by decide) (fun c53 => ?_) (fun c53 => ?_)
    · have hw := hw.1 c53
      refine x_iconst HE dX1_honesty_66 (by decide) ?_
      refine Wx.mask [true, true, true, true, true, false, true] (lo2 := [some (rV x0), some (iV x1), some (iV x2), none, some (rV l4), none, some (iV l6)]) rfl ?_
      exact w_X1_honesty_67 HE hr f0 hK29 hw
    · have hw := hw.2 c53
      refine x_aload HE dX1_honesty_56 rfl ?_
      refine x_iload HE dX1_honesty_58 rfl ?_
      obtain ⟨u60_0, hw⟩ := hw
      refine x_callV HE dX1_honesty_60 rfl (fun l => k_X21_waits u60_0 l hw) (As := [iV l6]) (rest := [iV l5]) rfl xc13 (Lay_X21.tag u60_0) (lw_V q1425 q1426 q1427 q157 q1428) hy_X21_waits rfl rfl (Nat.le_of_ble_eq_true rfl) (Nat.le_of_ble_eq_true rfl) (Nat.le_of_ble_eq_true rfl) (kkI (fun r60 m60 E60 hw => ?_))
      have hw := hw E60
      refine x_goto HE 67 dX1_honesty_63 (by decide) ?_
      refine Wx.mask [true, true, true, true, true, false, true] (lo2 := [some (rV x0), some (iV x1), some (iV x2), none, some (rV l4), none, some (iV l6)]) rfl ?_
      exact w_X1_honesty_67 HE hr f0 hK29 hw
theorem wl_X1_honesty_29 {G : GT} {X : ET} {h0 : Hp} {x0 x1 x2 : Int} (HE : XE G X cX1_honesty 7 RX1 10 220 h0) (hr : XR X (some .int)) (f0 : Lay_X1 h0 x0) {Q : Int → Hp → Prop} {l4 l5 l6 : Int} {h : Hp} (hw : Lp3 (g_X1_honesty_L29 x0 x1 x2 Q) l4 l5 l6 h) : Wx G X h0 (QI Q) h 29 [some (rV x0), some (iV x1), some (iV x2), none, some (rV l4), some (iV l5), some (iV l6)] [] := by
  obtain ⟨n, hw⟩ := hw
  induction n generalizing l4 l5 l6 h with
  | zero => exact hw.elim
  | succ n ih => exact w_X1_honesty_29 HE hr f0 (fun _ _ _ _ hk => ih hk) hw
def g_X1_honesty (x0 x1 x2 : Int) (Q : Int → Hp → Prop) (h : Hp) : Prop :=
  g_X1_refusesSet x0 x1 (fun r2 m2 => Ext h m2 → (((r2 ≤ 0) → (g_X1_lied x0 x1 (fun r18 m18 => Ext m2 m18 → (Lp3 (g_X1_honesty_L29 x0 x1 x2 Q) r18 0 0 m18)) m2)) ∧ ((0 < r2) → (g_X1_refused x0 r2 (fun r12 m12 => Ext m2 m12 → (Q r12 m12)) m2)))) h
theorem w_X1_honesty_0 {G : GT} {X : ET} {h0 : Hp} {x0 x1 x2 : Int} (HE : XE G X cX1_honesty 7 RX1 10 220 h0) (hr : XR X (some .int)) (f0 : Lay_X1 h0 x0) {Q : Int → Hp → Prop} {h : Hp} (hw : g_X1_honesty x0 x1 x2 Q h) : Wx G X h0 (QI Q) h 0 [some (rV x0), some (iV x1), some (iV x2), none, none, none, none] [] := by
  refine Wx.start (fun EB => ?_)
  unfold g_X1_honesty at hw
  refine x_aload_n HE 0 dX1_honesty_0 rfl rfl ?_
  refine x_iload_n HE 1 dX1_honesty_1 rfl rfl ?_
  refine x_callV HE dX1_honesty_2 rfl (fun l => k_X1_refusesSet (f0.ext EB) l hw) (As := [iV x1]) (rest := []) rfl xc11 (Lay_X1.tag (f0.ext EB)) (lw_V q1561 q1563 qs45 q123 q1564) hy_X1_refusesSet rfl rfl (Nat.le_of_ble_eq_true rfl) (Nat.le_of_ble_eq_true rfl) (Nat.le_of_ble_eq_true rfl) (kkI (fun r2 m2 E2 hw => ?_))
  have hw := hw E2
  refine x_istore_n HE 3 (lo' := [some (rV x0), some (iV x1), some (iV x2), some (iV r2), none, none, none]) dX1_honesty_5 rfl (Nat.le_of_ble_eq_true rfl) rfl ?_
  refine x_iload_n HE 3 dX1_honesty_6 rfl rfl ?_
  refine x_if_le HE 16 dX1_honesty_7 (by decide) (fun c7 => ?_) (fun c7 => ?_)
  · have hw := hw.1 c7
    refine x_aload_n HE 0 dX1_honesty_16 rfl rfl ?_
    refine x_iload_n HE 1 dX1_honesty_17 rfl rfl ?_
    refine x_callV HE dX1_honesty_18 rfl (fun l => k_X1_lied (f0.ext (EB.tr E2)) l hw) (As := [iV x1]) (rest := []) rfl xc11 (Lay_X1.tag (f0.ext (EB.tr E2))) (lw_V q1565 q1567 qs46 q123 q1568) hy_X1_lied rfl rfl (Nat.le_of_ble_eq_true rfl) (Nat.le_of_ble_eq_true rfl) (Nat.le_of_ble_eq_true rfl) (kkR (fun r18 m18 E18 hw => ?_))
    have hw := hw E18
    refine x_astore HE (lo' := [some (rV x0), some (iV x1), some (iV x2), some (iV r2), some (rV r18), none, none]) dX1_honesty_21 (Nat.le_of_ble_eq_true rfl) rfl ?_
    refine x_iconst HE dX1_honesty_23 (by decide) ?_
    refine x_istore HE (lo' := [some (rV x0), some (iV x1), some (iV x2), some (iV r2), some (rV r18), some (iV 0), none]) dX1_honesty_24 (Nat.le_of_ble_eq_true rfl) rfl ?_
    refine x_iconst HE dX1_honesty_26 (by decide) ?_
    refine x_istore HE (lo' := [some (rV x0), some (iV x1), some (iV x2), some (iV r2), some (rV r18), some (iV 0), some (iV 0)]) dX1_honesty_27 (Nat.le_of_ble_eq_true rfl) rfl ?_
    refine Wx.mask [true, true, true, false, true, true, true] (lo2 := [some (rV x0), some (iV x1), some (iV x2), none, some (rV r18), some (iV 0), some (iV 0)]) rfl ?_
    exact wl_X1_honesty_29 HE hr f0 hw
  · have hw := hw.2 c7
    refine x_aload_n HE 0 dX1_honesty_10 rfl rfl ?_
    refine x_iload_n HE 3 dX1_honesty_11 rfl rfl ?_
    refine x_callV HE dX1_honesty_12 rfl (fun l => k_X1_refused (f0.ext (EB.tr E2)) l hw) (As := [iV r2]) (rest := []) rfl xc11 (Lay_X1.tag (f0.ext (EB.tr E2))) (lw_V q279 q281 qs0 q123 q282) hy_X1_refused rfl rfl (Nat.le_of_ble_eq_true rfl) (Nat.le_of_ble_eq_true rfl) (Nat.le_of_ble_eq_true rfl) (kkI (fun r12 m12 E12 hw => ?_))
    have hw := hw E12
    exact x_iret HE hr dX1_honesty_15 hw
theorem k_X1_honesty {G : GT} {x0 x1 x2 : Int} {Q : Int → Hp → Prop} {h : Hp} (f0 : Lay_X1 h x0) (l : Launch) (hw : g_X1_honesty x0 x1 x2 Q h) : XM G l yX1_honesty cX1_honesty 7 (some .int) 10 220 [rV x0, iV x1, iV x2] (QI Q) h :=
  XM.of (by decide) (Nat.le_of_ble_eq_true rfl) (fun X HE hr hn => w_X1_honesty_0 HE hr f0 hw)
def g_X1_isAtRest_b93 (x0 x1 : Int) (Q : Int → Hp → Prop) (h : Hp) : Prop :=
  Q 1 h
theorem w_X1_isAtRest_93 {G : GT} {X : ET} {h0 : Hp} {x0 x1 : Int} (HE : XE G X cX1_isAtRest 5 RX1 10 220 h0) (hr : XR X (some .boolean)) (f0 : Lay_X1 h0 x0) {Q : Int → Hp → Prop} {h : Hp} (hw : g_X1_isAtRest_b93 x0 x1 Q  h) : Wx G X h0 (QI Q) h 93 [some (rV x0), some (iV x1), none, none, none] [] := by
  refine Wx.start (fun EB => ?_)
  unfold g_X1_isAtRest_b93 at hw
  refine x_iconst HE dX1_isAtRest_93 (by decide) ?_
  exact x_zret HE hr dX1_isAtRest_94 (by decide) hw
def g_X1_isAtRest_b85 (x0 x1 : Int) (Q : Int → Hp → Prop) (h : Hp) : Prop :=
  Q 0 h
theorem w_X1_isAtRest_85 {G : GT} {X : ET} {h0 : Hp} {x0 x1 : Int} (HE : XE G X cX1_isAtRest 5 RX1 10 220 h0) (hr : XR X (some .boolean)) (f0 : Lay_X1 h0 x0) {Q : Int → Hp → Prop} {h : Hp} (hw : g_X1_isAtRest_b85 x0 x1 Q  h) : Wx G X h0 (QI Q) h 85 [some (rV x0), some (iV x1), none, none, none] [] := by
  refine Wx.start (fun EB => ?_)
  unfold g_X1_isAtRest_b85 at hw
  refine x_iconst HE dX1_isAtRest_85 (by decide) ?_
  exact x_zret HE hr dX1_isAtRest_86 (by decide) hw
def g_X1_isAtRest_L48 (x0 x1 : Int) (Q : Int → Hp → Prop) (K48 : Int → Int → Hp → Prop) (l2 l4 : Int) (h : Hp) : Prop :=
  (Lay_X7 h (hF h x0 5)) ∧ (g_J2_size ((hF h x0 5) + 3) (fun r57 m57 => Ext h m57 → (((r57 ≤ l4) → (g_X1_isAtRest_b93 x0 x1 Q m57)) ∧ ((l4 < r57) → (g_X1_lied x0 (bXor x1 (bShl 1 l4)) (fun r70 m70 => Ext m57 m70 → ((Lay_X21 m70 r70) ∧ (g_X21_waits r70 l4 (fun r75 m75 => Ext m70 m75 → ((hT m75 l2 = 1) ∧ (((0 : Int) ≤ l4 ∧ l4 < hL m75 l2) ∧ ((((hA m75 l2 l4) ≤ r75) → ((i32 (l4 + 1)) ∧ (∀ y87 : Int, y87 = l4 + 1 → (K48 l2 y87 m75)))) ∧ ((r75 < (hA m75 l2 l4)) → (g_X1_isAtRest_b85 x0 x1 Q m75)))))) m70))) m57)))) h)
theorem w_X1_isAtRest_48 {G : GT} {X : ET} {h0 : Hp} {x0 x1 : Int} (HE : XE G X cX1_isAtRest 5 RX1 10 220 h0) (hr : XR X (some .boolean)) (f0 : Lay_X1 h0 x0) {Q : Int → Hp → Prop} {K48 : Int → Int → Hp → Prop} (hK48 : ∀ (l2 l4 : Int) (h : Hp), K48 l2 l4 h → Wx G X h0 (QI Q) h 48 [some (rV x0), some (iV x1), some (rV l2), none, some (iV l4)] []) {l2 l4 : Int} {h : Hp} (hw : g_X1_isAtRest_L48 x0 x1 Q K48 l2 l4 h) : Wx G X h0 (QI Q) h 48 [some (rV x0), some (iV x1), some (rV l2), none, some (iV l4)] [] := by
  refine Wx.start (fun EB => ?_)
  unfold g_X1_isAtRest_L48 at hw
  refine x_iload HE dX1_isAtRest_48 rfl ?_
  refine x_aload_n HE 0 dX1_isAtRest_50 rfl rfl ?_
  refine x_gR HE dX1_isAtRest_51 fd_X1_5 q227 (Or.inl rfl) (Lay_X1.tag (f0.ext EB)) rfl ?_
  obtain ⟨v54, hw⟩ := hw
  refine x_gR HE dX1_isAtRest_54 fd_X7_5 q331 (Or.inl rfl) (Lay_X7.tag v54) (Lay_X7_5 v54).1 ?_
  refine x_callV HE dX1_isAtRest_57 rfl (fun l => k_J2_size ((Lay_X7_5 v54).2) l hw) (As := []) (rest := [iV l4]) rfl xc32 ((Lay_X7_5 v54).2) (lw_V q1252 q708 q709 q128 q710) hy_J2_size rfl rfl (Nat.le_of_ble_eq_true rfl) (Nat.le_of_ble_eq_true rfl) (Nat.le_of_ble_eq_true rfl) (kkI (fun r57 m57 E57 hw => ?_))
  have hw := hw E57
  refine x_ic_ge HE 93 dX1_isAtRest_60 (by decide) (fun c60 => ?_) (fun c60 => ?_)
  · have hw := hw.1 c60
    refine Wx.mask [true, true, false, true, false] (lo2 := [some (rV x0), some (iV x1), none, none, none]) rfl ?_
    exact w_X1_isAtRest_93 HE hr f0 hw
  · have hw := hw.2 c60
    refine x_aload_n HE 0 dX1_isAtRest_63 rfl rfl ?_
    refine x_iload_n HE 1 dX1_isAtRest_64 rfl rfl ?_
    refine x_iconst HE dX1_isAtRest_65 (by decide) ?_
    refine x_iload HE dX1_isAtRest_66 rfl ?_
    refine x_ishl HE dX1_isAtRest_68 ?_
    refine x_ixor HE dX1_isAtRest_69 ?_
    refine x_callV HE dX1_isAtRest_70 rfl (fun l => k_X1_lied (f0.ext (EB.tr E57)) l hw) (As := [iV (bXor x1 (bShl 1 l4))]) (rest := []) rfl xc11 (Lay_X1.tag (f0.ext (EB.tr E57))) (lw_V q1565 q1567 qs46 q123 q1568) hy_X1_lied rfl rfl (Nat.le_of_ble_eq_true rfl) (Nat.le_of_ble_eq_true rfl) (Nat.le_of_ble_eq_true rfl) (kkR (fun r70 m70 E70 hw => ?_))
    have hw := hw E70
    refine x_iload HE dX1_isAtRest_73 rfl ?_
    obtain ⟨u75_0, hw⟩ := hw
    refine x_callV HE dX1_isAtRest_75 rfl (fun l => k_X21_waits u75_0 l hw) (As := [iV l4]) (rest := []) rfl xc13 (Lay_X21.tag u75_0) (lw_V q1425 q1426 q1427 q157 q1428) hy_X21_waits rfl rfl (Nat.le_of_ble_eq_true rfl) (Nat.le_of_ble_eq_true rfl) (Nat.le_of_ble_eq_true rfl) (kkI (fun r75 m75 E75 hw => ?_))
    have hw := hw E75
    refine x_aload_n HE 2 dX1_isAtRest_78 rfl rfl ?_
    refine x_iload HE dX1_isAtRest_79 rfl ?_
    obtain ⟨v81, hw⟩ := hw
    obtain ⟨i81, hw⟩ := hw
    refine x_iald HE dX1_isAtRest_81 (t := 1) (by decide) v81 i81 rfl ?_
    refine x_ic_ge HE 87 dX1_isAtRest_82 (by decide) (fun c82 => ?_) (fun c82 => ?_)
    · have hw := hw.1 c82
      obtain ⟨v87, hw⟩ := hw
      refine x_iincN HE (fun y87 => [some (rV x0), some (iV x1), some (rV l2), none, some (iV y87)]) dX1_isAtRest_87 rfl v87 (Nat.le_of_ble_eq_true rfl) (fun _ => rfl) (fun y87 ey87 => ?_)
      have hw := hw y87 ey87
      refine x_goto HE 48 dX1_isAtRest_90 (by decide) ?_
      exact hK48 _ _ _ hw
    · have hw := hw.2 c82
      refine Wx.mask [true, true, false, true, false] (lo2 := [some (rV x0), some (iV x1), none, none, none]) rfl ?_
      exact w_X1_isAtRest_85 HE hr f0 hw
theorem wl_X1_isAtRest_48 {G : GT} {X : ET} {h0 : Hp} {x0 x1 : Int} (HE : XE G X cX1_isAtRest 5 RX1 10 220 h0) (hr : XR X (some .boolean)) (f0 : Lay_X1 h0 x0) {Q : Int → Hp → Prop} {l2 l4 : Int} {h : Hp} (hw : Lp2 (g_X1_isAtRest_L48 x0 x1 Q) l2 l4 h) : Wx G X h0 (QI Q) h 48 [some (rV x0), some (iV x1), some (rV l2), none, some (iV l4)] [] := by
  obtain ⟨n, hw⟩ := hw
  induction n generalizing l2 l4 h with
  | zero => exact hw.elim
  | succ n ih => exact w_X1_isAtRest_48 HE hr f0 (fun _ _ _ hk => ih hk) hw
def g_X1_isAtRest_b45 (x0 x1 : Int) (Q : Int → Hp → Prop) (l2 : Int) (h : Hp) : Prop :=
  Lp2 (g_X1_isAtRest_L48 x0 x1 Q) l2 0 h
theorem w_X1_isAtRest_45 {G : GT} {X : ET} {h0 : Hp} {x0 x1 : Int} (HE : XE G X cX1_isAtRest 5 RX1 10 220 h0) (hr : XR X (some .boolean)) (f0 : Lay_X1 h0 x0) {Q : Int → Hp → Prop} {l2 : Int} {h : Hp} (hw : g_X1_isAtRest_b45 x0 x1 Q l2 h) : Wx G X h0 (QI Q) h 45 [some (rV x0), some (iV x1), some (rV l2), none, none] [] := by
  refine Wx.start (fun EB => ?_)
  unfold g_X1_isAtRest_b45 at hw
  refine x_iconst HE dX1_isAtRest_45 (by decide) ?_
  refine x_istore HE (lo' := [some (rV x0), some (iV x1), some (rV l2), none, some (iV 0)]) dX1_isAtRest_46 (Nat.le_of_ble_eq_true rfl) rfl ?_
  exact wl_X1_isAtRest_48 HE hr f0 hw
def g_X1_isAtRest_L14 (x0 x1 : Int) (Q : Int → Hp → Prop) (K14 : Int → Int → Int → Hp → Prop) (l2 l3 l4 : Int) (h : Hp) : Prop :=
  (Lay_X7 h (hF h x0 5)) ∧ (g_J2_size ((hF h x0 5) + 3) (fun r23 m23 => Ext h m23 → (((r23 ≤ l4) → (g_X1_isAtRest_b45 x0 x1 Q l2 m23)) ∧ ((l4 < r23) → ((Lay_X21 m23 l3) ∧ (g_X21_waits l3 l4 (fun r35 m35 => Ext m23 m35 → ((hT m35 l2 = 1) ∧ (((0 : Int) ≤ l4 ∧ l4 < hL m35 l2) ∧ (∀ m38 : Hp, m38 = setA m35 l2 l4 r35 → ((i32 (l4 + 1)) ∧ (∀ y39 : Int, y39 = l4 + 1 → (K14 l2 l3 y39 m38))))))) m23))))) h)
theorem w_X1_isAtRest_14 {G : GT} {X : ET} {h0 : Hp} {x0 x1 : Int} (HE : XE G X cX1_isAtRest 5 RX1 10 220 h0) (hr : XR X (some .boolean)) (f0 : Lay_X1 h0 x0) {Q : Int → Hp → Prop} {K14 : Int → Int → Int → Hp → Prop} (hK14 : ∀ (l2 l3 l4 : Int) (h : Hp), K14 l2 l3 l4 h → Wx G X h0 (QI Q) h 14 [some (rV x0), some (iV x1), some (rV l2), some (rV l3), some (iV l4)] []) {l2 l3 l4 : Int} {h : Hp} (hw : g_X1_isAtRest_L14 x0 x1 Q K14 l2 l3 l4 h) : Wx G X h0 (QI Q) h 14 [some (rV x0), some (iV x1), some (rV l2), some (rV l3), some (iV l4)] [] := by
  refine Wx.start (fun EB => ?_)
  unfold g_X1_isAtRest_L14 at hw
  refine x_iload HE dX1_isAtRest_14 rfl ?_
  refine x_aload_n HE 0 dX1_isAtRest_16 rfl rfl ?_
  refine x_gR HE dX1_isAtRest_17 fd_X1_5 q227 (Or.inl rfl) (Lay_X1.tag (f0.ext EB)) rfl ?_
  obtain ⟨v20, hw⟩ := hw
  refine x_gR HE dX1_isAtRest_20 fd_X7_5 q331 (Or.inl rfl) (Lay_X7.tag v20) (Lay_X7_5 v20).1 ?_
  refine x_callV HE dX1_isAtRest_23 rfl (fun l => k_J2_size ((Lay_X7_5 v20).2) l hw) (As := []) (rest := [iV l4]) rfl xc32 ((Lay_X7_5 v20).2) (lw_V q1252 q708 q709 q128 q710) hy_J2_size rfl rfl (Nat.le_of_ble_eq_true rfl) (Nat.le_of_ble_eq_true rfl) (Nat.le_of_ble_eq_true rfl) (kkI (fun r23 m23 E23 hw => ?_))
  have hw := hw E23
  refine x_ic_ge HE 45 dX1_isAtRest_26 (by decide) (fun c26 => ?_) (fun c26 => ?_)
  · have hw := hw.1 c26
    refine Wx.mask [true, true, true, false, false] (lo2 := [some (rV x0), some (iV x1), some (rV l2), none, none]) rfl ?_
    exact w_X1_isAtRest_45 HE hr f0 hw
  · have hw := hw.2 c26
    refine x_aload_n HE 2 dX1_isAtRest_29 rfl rfl ?_
    refine x_iload HE dX1_isAtRest_30 rfl ?_
    refine x_aload_n HE 3 dX1_isAtRest_32 rfl rfl ?_
    refine x_iload HE dX1_isAtRest_33 rfl ?_
    obtain ⟨u35_0, hw⟩ := hw
    refine x_callV HE dX1_isAtRest_35 rfl (fun l => k_X21_waits u35_0 l hw) (As := [iV l4]) (rest := [iV l4, rV l2]) rfl xc13 (Lay_X21.tag u35_0) (lw_V q1425 q1426 q1427 q157 q1428) hy_X21_waits rfl rfl (Nat.le_of_ble_eq_true rfl) (Nat.le_of_ble_eq_true rfl) (Nat.le_of_ble_eq_true rfl) (kkI (fun r35 m35 E35 hw => ?_))
    have hw := hw E35
    obtain ⟨v38, hw⟩ := hw
    obtain ⟨i38, hw⟩ := hw
    refine x_iast HE dX1_isAtRest_38 v38 i38 (fun m38 em38 E38 => ?_)
    have hw := hw m38 em38
    obtain ⟨v39, hw⟩ := hw
    refine x_iincN HE (fun y39 => [some (rV x0), some (iV x1), some (rV l2), some (rV l3), some (iV y39)]) dX1_isAtRest_39 rfl v39 (Nat.le_of_ble_eq_true rfl) (fun _ => rfl) (fun y39 ey39 => ?_)
    have hw := hw y39 ey39
    refine x_goto HE 14 dX1_isAtRest_42 (by decide) ?_
    exact hK14 _ _ _ _ hw
theorem wl_X1_isAtRest_14 {G : GT} {X : ET} {h0 : Hp} {x0 x1 : Int} (HE : XE G X cX1_isAtRest 5 RX1 10 220 h0) (hr : XR X (some .boolean)) (f0 : Lay_X1 h0 x0) {Q : Int → Hp → Prop} {l2 l3 l4 : Int} {h : Hp} (hw : Lp3 (g_X1_isAtRest_L14 x0 x1 Q) l2 l3 l4 h) : Wx G X h0 (QI Q) h 14 [some (rV x0), some (iV x1), some (rV l2), some (rV l3), some (iV l4)] [] := by
  obtain ⟨n, hw⟩ := hw
  induction n generalizing l2 l3 l4 h with
  | zero => exact hw.elim
  | succ n ih => exact w_X1_isAtRest_14 HE hr f0 (fun _ _ _ _ hk => ih hk) hw
def g_X1_isAtRest (x0 x1 : Int) (Q : Int → Hp → Prop) (h : Hp) : Prop :=
  (capOK h 10) ∧ (∀ (a2 : Int) (m2 : Hp), a2 = hN h → m2 = alloc h 1 10 10 → WFa h → (g_X1_lied x0 x1 (fun r7 m7 => Ext m2 m7 → (Lp3 (g_X1_isAtRest_L14 x0 x1 Q) a2 r7 0 m7)) m2))
theorem w_X1_isAtRest_0 {G : GT} {X : ET} {h0 : Hp} {x0 x1 : Int} (HE : XE G X cX1_isAtRest 5 RX1 10 220 h0) (hr : XR X (some .boolean)) (f0 : Lay_X1 h0 x0) {Q : Int → Hp → Prop} {h : Hp} (hw : g_X1_isAtRest x0 x1 Q h) : Wx G X h0 (QI Q) h 0 [some (rV x0), some (iV x1), none, none, none] [] := by
  refine Wx.start (fun EB => ?_)
  unfold g_X1_isAtRest at hw
  refine x_bipush HE dX1_isAtRest_0 (by decide) ?_
  obtain ⟨v2, hw⟩ := hw
  refine x_newIN HE dX1_isAtRest_2 q1019 (by decide) v2 (fun a2 m2 ea2 em2 E2 w2 => ?_)
  have hw := hw a2 m2 ea2 em2 w2
  have t2 := alloc_tag ea2 em2
  have l2 := alloc_len ea2 em2
  refine x_astore_n HE 2 (lo' := [some (rV x0), some (iV x1), some (rV a2), none, none]) dX1_isAtRest_4 rfl (Nat.le_of_ble_eq_true rfl) rfl ?_
  refine x_aload_n HE 0 dX1_isAtRest_5 rfl rfl ?_
  refine x_iload_n HE 1 dX1_isAtRest_6 rfl rfl ?_
  refine x_callV HE dX1_isAtRest_7 rfl (fun l => k_X1_lied (f0.ext (EB.tr E2)) l hw) (As := [iV x1]) (rest := []) rfl xc11 (Lay_X1.tag (f0.ext (EB.tr E2))) (lw_V q1565 q1567 qs46 q123 q1568) hy_X1_lied rfl rfl (Nat.le_of_ble_eq_true rfl) (Nat.le_of_ble_eq_true rfl) (Nat.le_of_ble_eq_true rfl) (kkR (fun r7 m7 E7 hw => ?_))
  have hw := hw E7
  refine x_astore_n HE 3 (lo' := [some (rV x0), some (iV x1), some (rV a2), some (rV r7), none]) dX1_isAtRest_10 rfl (Nat.le_of_ble_eq_true rfl) rfl ?_
  refine x_iconst HE dX1_isAtRest_11 (by decide) ?_
  refine x_istore HE (lo' := [some (rV x0), some (iV x1), some (rV a2), some (rV r7), some (iV 0)]) dX1_isAtRest_12 (Nat.le_of_ble_eq_true rfl) rfl ?_
  exact wl_X1_isAtRest_14 HE hr f0 hw
theorem k_X1_isAtRest {G : GT} {x0 x1 : Int} {Q : Int → Hp → Prop} {h : Hp} (f0 : Lay_X1 h x0) (l : Launch) (hw : g_X1_isAtRest x0 x1 Q h) : XM G l yX1_isAtRest cX1_isAtRest 5 (some .boolean) 10 220 [rV x0, iV x1] (QI Q) h :=
  XM.of (by decide) (Nat.le_of_ble_eq_true rfl) (fun X HE hr hn => w_X1_isAtRest_0 HE hr f0 hw)
def g_X1_rest_b35 (x0 x1 : Int) (Q : Int → Hp → Prop) (s0 : Int) (h : Hp) : Prop :=
  Q s0 h
theorem w_X1_rest_35 {G : GT} {X : ET} {h0 : Hp} {x0 x1 : Int} (HE : XE G X cX1_rest 3 RX1 11 244 h0) (hr : XR X (some .int)) (f0 : Lay_X1 h0 x0) {Q : Int → Hp → Prop} {s0 : Int} {h : Hp} (hw : g_X1_rest_b35 x0 x1 Q s0 h) : Wx G X h0 (QI Q) h 35 [some (rV x0), some (iV x1), none] [iV s0] := by
  refine Wx.start (fun EB => ?_)
  unfold g_X1_rest_b35 at hw
  exact x_iret HE hr dX1_rest_35 hw
def g_X1_rest_b32 (x0 x1 : Int) (Q : Int → Hp → Prop) (s0 s1 : Int) (h : Hp) : Prop :=
  (Lay_X1 h s0) ∧ (g_X1_well s0 s1 (fun r32 m32 => Ext h m32 → (g_X1_rest_b35 x0 x1 Q r32 m32)) h)
theorem w_X1_rest_32 {G : GT} {X : ET} {h0 : Hp} {x0 x1 : Int} (HE : XE G X cX1_rest 3 RX1 11 244 h0) (hr : XR X (some .int)) (f0 : Lay_X1 h0 x0) {Q : Int → Hp → Prop} {s0 s1 : Int} {h : Hp} (hw : g_X1_rest_b32 x0 x1 Q s0 s1 h) : Wx G X h0 (QI Q) h 32 [some (rV x0), some (iV x1), none] [iV s1, rV s0] := by
  refine Wx.start (fun EB => ?_)
  unfold g_X1_rest_b32 at hw
  obtain ⟨u32_0, hw⟩ := hw
  refine x_callV HE dX1_rest_32 rfl (fun l => k_X1_well u32_0 l hw) (As := [iV s1]) (rest := []) rfl xc11 (Lay_X1.tag u32_0) (lw_V q1253 q1255 qs26 q123 q1256) hy_X1_well rfl rfl (Nat.le_of_ble_eq_true rfl) (Nat.le_of_ble_eq_true rfl) (Nat.le_of_ble_eq_true rfl) (kkI (fun r32 m32 E32 hw => ?_))
  have hw := hw E32
  exact w_X1_rest_35 HE hr f0 hw
def g_X1_rest (x0 x1 : Int) (Q : Int → Hp → Prop) (h : Hp) : Prop :=
  g_X1_refusesSet x0 x1 (fun r2 m2 => Ext h m2 → (((r2 ≤ 0) → (g_X1_isAtRest x0 x1 (fun r21 m21 => Ext m2 m21 → (((r21 = 0) → (g_X1_rest_b32 x0 x1 Q x0 0 m21)) ∧ ((r21 ≠ 0) → (g_X1_rest_b32 x0 x1 Q x0 1 m21)))) m2)) ∧ ((0 < r2) → (g_X1_refused x0 r2 (fun r12 m12 => Ext m2 m12 → (g_X1_rest_b35 x0 x1 Q r12 m12)) m2)))) h
theorem w_X1_rest_0 {G : GT} {X : ET} {h0 : Hp} {x0 x1 : Int} (HE : XE G X cX1_rest 3 RX1 11 244 h0) (hr : XR X (some .int)) (f0 : Lay_X1 h0 x0) {Q : Int → Hp → Prop} {h : Hp} (hw : g_X1_rest x0 x1 Q h) : Wx G X h0 (QI Q) h 0 [some (rV x0), some (iV x1), none] [] := by
  refine Wx.start (fun EB => ?_)
  unfold g_X1_rest at hw
  refine x_aload_n HE 0 dX1_rest_0 rfl rfl ?_
  refine x_iload_n HE 1 dX1_rest_1 rfl rfl ?_
  refine x_callV HE dX1_rest_2 rfl (fun l => k_X1_refusesSet (f0.ext EB) l hw) (As := [iV x1]) (rest := []) rfl xc11 (Lay_X1.tag (f0.ext EB)) (lw_V q1561 q1563 qs45 q123 q1564) hy_X1_refusesSet rfl rfl (Nat.le_of_ble_eq_true rfl) (Nat.le_of_ble_eq_true rfl) (Nat.le_of_ble_eq_true rfl) (kkI (fun r2 m2 E2 hw => ?_))
  have hw := hw E2
  refine x_istore_n HE 2 (lo' := [some (rV x0), some (iV x1), some (iV r2)]) dX1_rest_5 rfl (Nat.le_of_ble_eq_true rfl) rfl ?_
  refine x_iload_n HE 2 dX1_rest_6 rfl rfl ?_
  refine x_if_le HE 18 dX1_rest_7 (by decide) (fun c7 => ?_) (fun c7 => ?_)
  · have hw := hw.1 c7
    refine x_aload_n HE 0 dX1_rest_18 rfl rfl ?_
    refine x_aload_n HE 0 dX1_rest_19 rfl rfl ?_
    refine x_iload_n HE 1 dX1_rest_20 rfl rfl ?_
    refine x_callV HE dX1_rest_21 rfl (fun l => k_X1_isAtRest (f0.ext (EB.tr E2)) l hw) (As := [iV x1]) (rest := [rV x0]) rfl xc11 (Lay_X1.tag (f0.ext (EB.tr E2))) (lw_V q1576 q1578 qs47 q123 q1579) hy_X1_isAtRest rfl rfl (Nat.le_of_ble_eq_true rfl) (Nat.le_of_ble_eq_true rfl) (Nat.le_of_ble_eq_true rfl) (kkI (fun r21 m21 E21 hw => ?_))
    have hw := hw E21
    refine x_if_eq HE 31 dX1_rest_24 (by decide) (fun c24 => ?_) (fun c24 => ?_)
    · have hw := hw.1 c24
      refine x_iconst HE dX1_rest_31 (by decide) ?_
      refine Wx.mask [true, true, false] (lo2 := [some (rV x0), some (iV x1), none]) rfl ?_
      exact w_X1_rest_32 HE hr f0 hw
    · have hw := hw.2 c24
      refine x_iconst HE dX1_rest_27 (by decide) ?_
      refine x_goto HE 32 dX1_rest_28 (by decide) ?_
      refine Wx.mask [true, true, false] (lo2 := [some (rV x0), some (iV x1), none]) rfl ?_
      exact w_X1_rest_32 HE hr f0 hw
  · have hw := hw.2 c7
    refine x_aload_n HE 0 dX1_rest_10 rfl rfl ?_
    refine x_iload_n HE 2 dX1_rest_11 rfl rfl ?_
    refine x_callV HE dX1_rest_12 rfl (fun l => k_X1_refused (f0.ext (EB.tr E2)) l hw) (As := [iV r2]) (rest := []) rfl xc11 (Lay_X1.tag (f0.ext (EB.tr E2))) (lw_V q279 q281 qs0 q123 q282) hy_X1_refused rfl rfl (Nat.le_of_ble_eq_true rfl) (Nat.le_of_ble_eq_true rfl) (Nat.le_of_ble_eq_true rfl) (kkI (fun r12 m12 E12 hw => ?_))
    have hw := hw E12
    refine x_goto HE 35 dX1_rest_15 (by decide) ?_
    refine Wx.mask [true, true, false] (lo2 := [some (rV x0), some (iV x1), none]) rfl ?_
    exact w_X1_rest_35 HE hr f0 hw
theorem k_X1_rest {G : GT} {x0 x1 : Int} {Q : Int → Hp → Prop} {h : Hp} (f0 : Lay_X1 h x0) (l : Launch) (hw : g_X1_rest x0 x1 Q h) : XM G l yX1_rest cX1_rest 3 (some .int) 11 244 [rV x0, iV x1] (QI Q) h :=
  XM.of (by decide) (Nat.le_of_ble_eq_true rfl) (fun X HE hr hn => w_X1_rest_0 HE hr f0 hw)
def g_X1_rests_b76 (x0 : Int) (Q : Int → Hp → Prop) (l1 : Int) (h : Hp) : Prop :=
  g_X1_well x0 l1 (fun r78 m78 => Ext h m78 → (Q r78 m78)) h
theorem w_X1_rests_76 {G : GT} {X : ET} {h0 : Hp} {x0 : Int} (HE : XE G X cX1_rests 3 RX1 11 244 h0) (hr : XR X (some .int)) (f0 : Lay_X1 h0 x0) {Q : Int → Hp → Prop} {l1 : Int} {h : Hp} (hw : g_X1_rests_b76 x0 Q l1 h) : Wx G X h0 (QI Q) h 76 [some (rV x0), some (iV l1), none] [] := by
  refine Wx.start (fun EB => ?_)
  unfold g_X1_rests_b76 at hw
  refine x_aload_n HE 0 dX1_rests_76 rfl rfl ?_
  refine x_iload_n HE 1 dX1_rests_77 rfl rfl ?_
  refine x_callV HE dX1_rests_78 rfl (fun l => k_X1_well (f0.ext EB) l hw) (As := [iV l1]) (rest := []) rfl xc11 (Lay_X1.tag (f0.ext EB)) (lw_V q1253 q1255 qs26 q123 q1256) hy_X1_well rfl rfl (Nat.le_of_ble_eq_true rfl) (Nat.le_of_ble_eq_true rfl) (Nat.le_of_ble_eq_true rfl) (kkI (fun r78 m78 E78 hw => ?_))
  have hw := hw E78
  exact x_iret HE hr dX1_rests_81 hw
def g_X1_rests_b68 (x0 : Int) (Q : Int → Hp → Prop) (K38 : Int → Int → Hp → Prop) (l2 s0 s1 : Int) (h : Hp) : Prop :=
  (i32 (s0 + s1)) ∧ (∀ y69 : Int, y69 = (s0 + s1) → ((i32 (l2 + 1)) ∧ (∀ y70 : Int, y70 = l2 + 1 → (K38 y69 y70 h))))
theorem w_X1_rests_68 {G : GT} {X : ET} {h0 : Hp} {x0 : Int} (HE : XE G X cX1_rests 3 RX1 11 244 h0) (hr : XR X (some .int)) (f0 : Lay_X1 h0 x0) {Q : Int → Hp → Prop} {K38 : Int → Int → Hp → Prop} (hK38 : ∀ (l1 l2 : Int) (h : Hp), K38 l1 l2 h → Wx G X h0 (QI Q) h 38 [some (rV x0), some (iV l1), some (iV l2)] []) {l2 s0 s1 : Int} {h : Hp} (hw : g_X1_rests_b68 x0 Q K38 l2 s0 s1 h) : Wx G X h0 (QI Q) h 68 [some (rV x0), none, some (iV l2)] [iV s1, iV s0] := by
  refine Wx.start (fun EB => ?_)
  unfold g_X1_rests_b68 at hw
  obtain ⟨v68, hw⟩ := hw
  refine x_iadd HE dX1_rests_68 v68 ?_
  refine x_istore_nN HE 1 (fun y69 => [some (rV x0), some (iV y69), some (iV l2)]) dX1_rests_69 rfl (Nat.le_of_ble_eq_true rfl) (fun _ => rfl) (fun y69 ey69 => ?_)
  have hw := hw y69 ey69
  obtain ⟨v70, hw⟩ := hw
  refine x_iincN HE (fun y70 => [some (rV x0), some (iV y69), some (iV y70)]) dX1_rests_70 rfl v70 (Nat.le_of_ble_eq_true rfl) (fun _ => rfl) (fun y70 ey70 => ?_)
  have hw := hw y70 ey70
  refine x_goto HE 38 dX1_rests_73 (by decide) ?_
  exact hK38 _ _ _ hw
def g_X1_rests_L38 (x0 : Int) (Q : Int → Hp → Prop) (K38 : Int → Int → Hp → Prop) (l1 l2 : Int) (h : Hp) : Prop :=
  (Lay_X7 h (hF h x0 5)) ∧ (g_J2_size ((hF h x0 5) + 3) (fun r47 m47 => Ext h m47 → ((((bShl 1 r47) ≤ l2) → (g_X1_rests_b76 x0 Q l1 m47)) ∧ ((l2 < (bShl 1 r47)) → (g_X1_isAtRest x0 l2 (fun r57 m57 => Ext m47 m57 → (((r57 = 0) → (g_X1_rests_b68 x0 Q K38 l2 l1 0 m57)) ∧ ((r57 ≠ 0) → (g_X1_rests_b68 x0 Q K38 l2 l1 1 m57)))) m47)))) h)
theorem w_X1_rests_38 {G : GT} {X : ET} {h0 : Hp} {x0 : Int} (HE : XE G X cX1_rests 3 RX1 11 244 h0) (hr : XR X (some .int)) (f0 : Lay_X1 h0 x0) {Q : Int → Hp → Prop} {K38 : Int → Int → Hp → Prop} (hK38 : ∀ (l1 l2 : Int) (h : Hp), K38 l1 l2 h → Wx G X h0 (QI Q) h 38 [some (rV x0), some (iV l1), some (iV l2)] []) {l1 l2 : Int} {h : Hp} (hw : g_X1_rests_L38 x0 Q K38 l1 l2 h) : Wx G X h0 (QI Q) h 38 [some (rV x0), some (iV l1), some (iV l2)] [] := by
  refine Wx.start (fun EB => ?_)
  unfold g_X1_rests_L38 at hw
  refine x_iload_n HE 2 dX1_rests_38 rfl rfl ?_
  refine x_iconst HE dX1_rests_39 (by decide) ?_
  refine x_aload_n HE 0 dX1_rests_40 rfl rfl ?_
  refine x_gR HE dX1_rests_41 fd_X1_5 q227 (Or.inl rfl) (Lay_X1.tag (f0.ext EB)) rfl ?_
  obtain ⟨v44, hw⟩ := hw
  refine x_gR HE dX1_rests_44 fd_X7_5 q331 (Or.inl rfl) (Lay_X7.tag v44) (Lay_X7_5 v44).1 ?_
  refine x_callV HE dX1_rests_47 rfl (fun l => k_J2_size ((Lay_X7_5 v44).2) l hw) (As := []) (rest := [iV 1, iV l2]) rfl xc32 ((Lay_X7_5 v44).2) (lw_V q1252 q708 q709 q128 q710) hy_J2_size rfl rfl (Nat.le_of_ble_eq_true rfl) (Nat.le_of_ble_eq_true rfl) (Nat.le_of_ble_eq_true rfl) (kkI (fun r47 m47 E47 hw => ?_))
  have hw := hw E47
  refine x_ishl HE dX1_rests_50 ?_
  refine x_ic_ge HE 76 dX1_rests_51 (by decide) (fun c51 => ?_) (fun c51 => ?_)
  · have hw := hw.1 c51
    refine Wx.mask [true, true, false] (lo2 := [some (rV x0), some (iV l1), none]) rfl ?_
    exact w_X1_rests_76 HE hr f0 hw
  · have hw := hw.2 c51
    refine x_iload_n HE 1 dX1_rests_54 rfl rfl ?_
    refine x_aload_n HE 0 dX1_rests_55 rfl rfl ?_
    refine x_iload_n HE 2 dX1_rests_56 rfl rfl ?_
    refine x_callV HE dX1_rests_57 rfl (fun l => k_X1_isAtRest (f0.ext (EB.tr E47)) l hw) (As := [iV l2]) (rest := [iV l1]) rfl xc11 (Lay_X1.tag (f0.ext (EB.tr E47))) (lw_V q1576 q1578 qs47 q123 q1579) hy_X1_isAtRest rfl rfl (Nat.le_of_ble_eq_true rfl) (Nat.le_of_ble_eq_true rfl) (Nat.le_of_ble_eq_true rfl) (kkI (fun r57 m57 E57 hw => ?_))
    have hw := hw E57
    refine x_if_eq HE 67 dX1_rests_60 (by decide) (fun c60 => ?_) (fun c60 => ?_)
    · have hw := hw.1 c60
      refine x_iconst HE dX1_rests_67 (by decide) ?_
      refine Wx.mask [true, false, true] (lo2 := [some (rV x0), none, some (iV l2)]) rfl ?_
      exact w_X1_rests_68 HE hr f0 hK38 hw
    · have hw := hw.2 c60
      refine x_iconst HE dX1_rests_63 (by decide) ?_
      refine x_goto HE 68 dX1_rests_64 (by decide) ?_
      refine Wx.mask [true, false, true] (lo2 := [some (rV x0), none, some (iV l2)]) rfl ?_
      exact w_X1_rests_68 HE hr f0 hK38 hw
theorem wl_X1_rests_38 {G : GT} {X : ET} {h0 : Hp} {x0 : Int} (HE : XE G X cX1_rests 3 RX1 11 244 h0) (hr : XR X (some .int)) (f0 : Lay_X1 h0 x0) {Q : Int → Hp → Prop} {l1 l2 : Int} {h : Hp} (hw : Lp2 (g_X1_rests_L38 x0 Q) l1 l2 h) : Wx G X h0 (QI Q) h 38 [some (rV x0), some (iV l1), some (iV l2)] [] := by
  obtain ⟨n, hw⟩ := hw
  induction n generalizing l1 l2 h with
  | zero => exact hw.elim
  | succ n ih => exact w_X1_rests_38 HE hr f0 (fun _ _ _ hk => ih hk) hw
def g_X1_rests (x0 : Int) (Q : Int → Hp → Prop) (h : Hp) : Prop :=
  ((0 < (hF h x0 5)) → ((Lay_X7 h (hF h x0 5)) ∧ (g_J2_size ((hF h x0 5) + 3) (fun r20 m20 => Ext h m20 → (((r20 ≤ 7) → (Lp2 (g_X1_rests_L38 x0 Q) 0 0 m20)) ∧ ((7 < r20) → (g_X1_refused x0 3 (fun r30 m30 => Ext m20 m30 → (Q r30 m30)) m20)))) h))) ∧ (((hF h x0 5) = 0) → (g_X1_refused x0 1 (fun r9 m9 => Ext h m9 → (Q r9 m9)) h))
theorem w_X1_rests_0 {G : GT} {X : ET} {h0 : Hp} {x0 : Int} (HE : XE G X cX1_rests 3 RX1 11 244 h0) (hr : XR X (some .int)) (f0 : Lay_X1 h0 x0) {Q : Int → Hp → Prop} {h : Hp} (hw : g_X1_rests x0 Q h) : Wx G X h0 (QI Q) h 0 [some (rV x0), none, none] [] := by
  refine Wx.start (fun EB => ?_)
  unfold g_X1_rests at hw
  refine x_aload_n HE 0 dX1_rests_0 rfl rfl ?_
  refine x_gR HE dX1_rests_1 fd_X1_5 q227 (Or.inl rfl) (Lay_X1.tag (f0.ext EB)) rfl ?_
  refine x_ifnonnull HE 13 dX1_rests_4 (by decide) (fun c4 => ?_) (fun c4 => ?_)
  · have hw := hw.1 c4
    refine x_aload_n HE 0 dX1_rests_13 rfl rfl ?_
    refine x_gR HE dX1_rests_14 fd_X1_5 q227 (Or.inl rfl) (Lay_X1.tag (f0.ext EB)) rfl ?_
    obtain ⟨v17, hw⟩ := hw
    refine x_gR HE dX1_rests_17 fd_X7_5 q331 (Or.inl rfl) (Lay_X7.tag v17) (Lay_X7_5 v17).1 ?_
    refine x_callV HE dX1_rests_20 rfl (fun l => k_J2_size ((Lay_X7_5 v17).2) l hw) (As := []) (rest := []) rfl xc32 ((Lay_X7_5 v17).2) (lw_V q1252 q708 q709 q128 q710) hy_J2_size rfl rfl (Nat.le_of_ble_eq_true rfl) (Nat.le_of_ble_eq_true rfl) (Nat.le_of_ble_eq_true rfl) (kkI (fun r20 m20 E20 hw => ?_))
    have hw := hw E20
    refine x_bipush HE dX1_rests_23 (by decide) ?_
    refine x_ic_le HE 34 dX1_rests_25 (by decide) (fun c25 => ?_) (fun c25 => ?_)
    · have hw := hw.1 c25
      refine x_iconst HE dX1_rests_34 (by decide) ?_
      refine x_istore_n HE 1 (lo' := [some (rV x0), some (iV 0), none]) dX1_rests_35 rfl (Nat.le_of_ble_eq_true rfl) rfl ?_
      refine x_iconst HE dX1_rests_36 (by decide) ?_
      refine x_istore_n HE 2 (lo' := [some (rV x0), some (iV 0), some (iV 0)]) dX1_rests_37 rfl (Nat.le_of_ble_eq_true rfl) rfl ?_
      exact wl_X1_rests_38 HE hr f0 hw
    · have hw := hw.2 c25
      refine x_aload_n HE 0 dX1_rests_28 rfl rfl ?_
      refine x_iconst HE dX1_rests_29 (by decide) ?_
      refine x_callV HE dX1_rests_30 rfl (fun l => k_X1_refused (f0.ext (EB.tr E20)) l hw) (As := [iV 3]) (rest := []) rfl xc11 (Lay_X1.tag (f0.ext (EB.tr E20))) (lw_V q279 q281 qs0 q123 q282) hy_X1_refused rfl rfl (Nat.le_of_ble_eq_true rfl) (Nat.le_of_ble_eq_true rfl) (Nat.le_of_ble_eq_true rfl) (kkI (fun r30 m30 E30 hw => ?_))
      have hw := hw E30
      exact x_iret HE hr dX1_rests_33 hw
  · have hw := hw.2 c4
    refine x_aload_n HE 0 dX1_rests_7 rfl rfl ?_
    refine x_iconst HE dX1_rests_8 (by decide) ?_
    refine x_callV HE dX1_rests_9 rfl (fun l => k_X1_refused (f0.ext EB) l hw) (As := [iV 1]) (rest := []) rfl xc11 (Lay_X1.tag (f0.ext EB)) (lw_V q279 q281 qs0 q123 q282) hy_X1_refused rfl rfl (Nat.le_of_ble_eq_true rfl) (Nat.le_of_ble_eq_true rfl) (Nat.le_of_ble_eq_true rfl) (kkI (fun r9 m9 E9 hw => ?_))
    have hw := hw E9
    exact x_iret HE hr dX1_rests_12 hw
theorem k_X1_rests {G : GT} {x0 : Int} {Q : Int → Hp → Prop} {h : Hp} (f0 : Lay_X1 h x0) (l : Launch) (hw : g_X1_rests x0 Q h) : XM G l yX1_rests cX1_rests 3 (some .int) 11 244 [rV x0] (QI Q) h :=
  XM.of (by decide) (Nat.le_of_ble_eq_true rfl) (fun X HE hr hn => w_X1_rests_0 HE hr f0 hw)
def g_X1_orders_b56 (x0 x1 : Int) (Q : Int → Hp → Prop) (l2 l3 : Int) (h : Hp) : Prop :=
  (capOK h 5) ∧ (∀ (a56 : Int) (m56 : Hp), a56 = hN h → m56 = alloc h 21 0 5 → WFa h → ((Lay_X21 m56 (hF m56 x0 6)) ∧ (((0 : Int) ≤ x1 ∧ x1 < 4) ∧ (g_X22_init a56 (hF m56 x0 5) l2 l3 (hA m56 ((hF m56 x0 6) + 21) x1) (fun m75 => Ext m56 m75 → (Q a56 m75)) m56))))
theorem w_X1_orders_56 {G : GT} {X : ET} {h0 : Hp} {x0 x1 : Int} (HE : XE G X cX1_orders 5 RX1 15 392 h0) (hr : XR X (some (.object "NextAtBar$Orders"))) (f0 : Lay_X1 h0 x0) {Q : Int → Hp → Prop} {l2 l3 : Int} {h : Hp} (hw : g_X1_orders_b56 x0 x1 Q l2 l3 h) : Wx G X h0 (QR Q) h 56 [some (rV x0), some (iV x1), some (rV l2), some (iV l3), none] [] := by
  refine Wx.start (fun EB => ?_)
  unfold g_X1_orders_b56 at hw
  obtain ⟨v56, hw⟩ := hw
  refine x_newN HE dX1_orders_56 xc21 (by decide) (nro (by decide)) q1592 q1593 q158 v56 (fun a56 m56 ea56 em56 E56 w56 => ?_)
  have hw := hw a56 m56 ea56 em56 w56
  have t56 := alloc_tag ea56 em56
  refine x_dup HE dX1_orders_59 (fun o => o) ?_
  refine x_aload_n HE 0 dX1_orders_60 rfl rfl ?_
  refine x_gR HE dX1_orders_61 fd_X1_5 q227 (Or.inl rfl) (Lay_X1.tag (f0.ext (EB.tr E56))) rfl ?_
  refine x_aload_n HE 2 dX1_orders_64 rfl rfl ?_
  refine x_iload_n HE 3 dX1_orders_65 rfl rfl ?_
  refine x_aload_n HE 0 dX1_orders_66 rfl rfl ?_
  refine x_gR HE dX1_orders_67 fd_X1_6 q228 (Or.inl rfl) (Lay_X1.tag (f0.ext (EB.tr E56))) rfl ?_
  obtain ⟨v70, hw⟩ := hw
  refine x_gR HE dX1_orders_70 fd_X21_22 q1168 (Or.inl rfl) (Lay_X21.tag v70) (Lay_X21_22 v70).1 ?_
  refine x_iload_n HE 1 dX1_orders_73 rfl rfl ?_
  obtain ⟨i74, hw⟩ := hw
  refine x_iald HE dX1_orders_74 (t := 1) (by decide) ((Lay_X21_22 v70).2.1) (ix_of ((Lay_X21_22 v70).2.2) i74) rfl ?_
  refine Wx.wf (fun wf75 => ?_)
  refine x_callI HE dX1_orders_75 rfl (fun l => k_X22_init t56 l hw) (As := [rV (hF m56 x0 5), rV l2, iV l3, iV (hA m56 ((hF m56 x0 6) + 21) x1)]) (rest := [rV a56]) rfl (tag_pos wf75 t56 (by decide)) q1594 q158 q1595 q1596 rfl hy_X22_init.2 rfl rfl (Nat.le_of_ble_eq_true rfl) (Nat.le_of_ble_eq_true rfl) (Nat.le_of_ble_eq_true rfl) (kkV (fun m75 E75 hw => ?_))
  have hw := hw E75
  exact x_aret HE hr (Or.inl ⟨_, rfl⟩) dX1_orders_78 hw
def g_X1_orders_b50 (x0 x1 : Int) (Q : Int → Hp → Prop) (K10 : Int → Int → Int → Hp → Prop) (l2 l3 l4 : Int) (h : Hp) : Prop :=
  (i32 (l4 + 1)) ∧ (∀ y50 : Int, y50 = l4 + 1 → (K10 l2 l3 y50 h))
theorem w_X1_orders_50 {G : GT} {X : ET} {h0 : Hp} {x0 x1 : Int} (HE : XE G X cX1_orders 5 RX1 15 392 h0) (hr : XR X (some (.object "NextAtBar$Orders"))) (f0 : Lay_X1 h0 x0) {Q : Int → Hp → Prop} {K10 : Int → Int → Int → Hp → Prop} (hK10 : ∀ (l2 l3 l4 : Int) (h : Hp), K10 l2 l3 l4 h → Wx G X h0 (QR Q) h 10 [some (rV x0), some (iV x1), some (rV l2), some (iV l3), some (iV l4)] []) {l2 l3 l4 : Int} {h : Hp} (hw : g_X1_orders_b50 x0 x1 Q K10 l2 l3 l4 h) : Wx G X h0 (QR Q) h 50 [some (rV x0), some (iV x1), some (rV l2), some (iV l3), some (iV l4)] [] := by
  refine Wx.start (fun EB => ?_)
  unfold g_X1_orders_b50 at hw
  obtain ⟨v50, hw⟩ := hw
  refine x_iincN HE (fun y50 => [some (rV x0), some (iV x1), some (rV l2), some (iV l3), some (iV y50)]) dX1_orders_50 rfl v50 (Nat.le_of_ble_eq_true rfl) (fun _ => rfl) (fun y50 ey50 => ?_)
  have hw := hw y50 ey50
  refine x_goto HE 10 dX1_orders_53 (by decide) ?_
  exact hK10 _ _ _ _ hw
def g_X1_orders_L10 (x0 x1 : Int) (Q : Int → Hp → Prop) (K10 : Int → Int → Int → Hp → Prop) (l2 l3 l4 : Int) (h : Hp) : Prop :=
  (Lay_X7 h (hF h x0 5)) ∧ (g_J2_size ((hF h x0 5) + 3) (fun r19 m19 => Ext h m19 → (((r19 ≤ l4) → (g_X1_orders_b56 x0 x1 Q l2 l3 m19)) ∧ ((l4 < r19) → ((Lay_X21 m19 (hF m19 x0 6)) ∧ (((0 : Int) ≤ l4 ∧ l4 < 10) ∧ ((((hA m19 ((hF m19 x0 6) + 1) l4) = 1) → ((hT m19 l2 = 1) ∧ (((0 : Int) ≤ l3 ∧ l3 < hL m19 l2) ∧ (∀ m46 : Hp, m46 = setA m19 l2 l3 l4 → ((i32 (l3 + 1)) ∧ (∀ y47 : Int, y47 = l3 + 1 → (g_X1_orders_b50 x0 x1 Q K10 l2 y47 l4 m46))))))) ∧ (((hA m19 ((hF m19 x0 6) + 1) l4) ≠ 1) → (g_X1_orders_b50 x0 x1 Q K10 l2 l3 l4 m19)))))))) h)
theorem w_X1_orders_10 {G : GT} {X : ET} {h0 : Hp} {x0 x1 : Int} (HE : XE G X cX1_orders 5 RX1 15 392 h0) (hr : XR X (some (.object "NextAtBar$Orders"))) (f0 : Lay_X1 h0 x0) {Q : Int → Hp → Prop} {K10 : Int → Int → Int → Hp → Prop} (hK10 : ∀ (l2 l3 l4 : Int) (h : Hp), K10 l2 l3 l4 h → Wx G X h0 (QR Q) h 10 [some (rV x0), some (iV x1), some (rV l2), some (iV l3), some (iV l4)] []) {l2 l3 l4 : Int} {h : Hp} (hw : g_X1_orders_L10 x0 x1 Q K10 l2 l3 l4 h) : Wx G X h0 (QR Q) h 10 [some (rV x0), some (iV x1), some (rV l2), some (iV l3), some (iV l4)] [] := by
  refine Wx.start (fun EB => ?_)
  unfold g_X1_orders_L10 at hw
  refine x_iload HE dX1_orders_10 rfl ?_
  refine x_aload_n HE 0 dX1_orders_12 rfl rfl ?_
  refine x_gR HE dX1_orders_13 fd_X1_5 q227 (Or.inl rfl) (Lay_X1.tag (f0.ext EB)) rfl ?_
  obtain ⟨v16, hw⟩ := hw
  refine x_gR HE dX1_orders_16 fd_X7_5 q331 (Or.inl rfl) (Lay_X7.tag v16) (Lay_X7_5 v16).1 ?_
  refine x_callV HE dX1_orders_19 rfl (fun l => k_J2_size ((Lay_X7_5 v16).2) l hw) (As := []) (rest := [iV l4]) rfl xc32 ((Lay_X7_5 v16).2) (lw_V q1252 q708 q709 q128 q710) hy_J2_size rfl rfl (Nat.le_of_ble_eq_true rfl) (Nat.le_of_ble_eq_true rfl) (Nat.le_of_ble_eq_true rfl) (kkI (fun r19 m19 E19 hw => ?_))
  have hw := hw E19
  refine x_ic_ge HE 56 dX1_orders_22 (by decide) (fun c22 => ?_) (fun c22 => ?_)
  · have hw := hw.1 c22
    refine Wx.mask [true, true, true, true, false] (lo2 := [some (rV x0), some (iV x1), some (rV l2), some (iV l3), none]) rfl ?_
    exact w_X1_orders_56 HE hr f0 hw
  · have hw := hw.2 c22
    refine x_aload_n HE 0 dX1_orders_25 rfl rfl ?_
    refine x_gR HE dX1_orders_26 fd_X1_6 q228 (Or.inl rfl) (Lay_X1.tag (f0.ext (EB.tr E19))) rfl ?_
    obtain ⟨v29, hw⟩ := hw
    refine x_gR HE dX1_orders_29 fd_X21_2 q1125 (Or.inl rfl) (Lay_X21.tag v29) (Lay_X21_2 v29).1 ?_
    refine x_iload HE dX1_orders_32 rfl ?_
    obtain ⟨i34, hw⟩ := hw
    refine x_iald HE dX1_orders_34 (t := 1) (by decide) ((Lay_X21_2 v29).2.1) (ix_of ((Lay_X21_2 v29).2.2) i34) rfl ?_
    refine x_iconst HE dX1_orders_35 (by decide) ?_
    refine x_ic_eq HE 42 dX1_orders_36 (by decide) (fun c36 => ?_) (fun c36 => ?_)
    · have hw := hw.1 c36
      refine x_aload_n HE 2 dX1_orders_42 rfl rfl ?_
      refine x_iload_n HE 3 dX1_orders_43 rfl rfl ?_
      refine x_iload HE dX1_orders_44 rfl ?_
      obtain ⟨v46, hw⟩ := hw
      obtain ⟨i46, hw⟩ := hw
      refine x_iast HE dX1_orders_46 v46 i46 (fun m46 em46 E46 => ?_)
      have hw := hw m46 em46
      obtain ⟨v47, hw⟩ := hw
      refine x_iincN HE (fun y47 => [some (rV x0), some (iV x1), some (rV l2), some (iV y47), some (iV l4)]) dX1_orders_47 rfl v47 (Nat.le_of_ble_eq_true rfl) (fun _ => rfl) (fun y47 ey47 => ?_)
      have hw := hw y47 ey47
      exact w_X1_orders_50 HE hr f0 hK10 hw
    · have hw := hw.2 c36
      refine x_goto HE 50 dX1_orders_39 (by decide) ?_
      exact w_X1_orders_50 HE hr f0 hK10 hw
theorem wl_X1_orders_10 {G : GT} {X : ET} {h0 : Hp} {x0 x1 : Int} (HE : XE G X cX1_orders 5 RX1 15 392 h0) (hr : XR X (some (.object "NextAtBar$Orders"))) (f0 : Lay_X1 h0 x0) {Q : Int → Hp → Prop} {l2 l3 l4 : Int} {h : Hp} (hw : Lp3 (g_X1_orders_L10 x0 x1 Q) l2 l3 l4 h) : Wx G X h0 (QR Q) h 10 [some (rV x0), some (iV x1), some (rV l2), some (iV l3), some (iV l4)] [] := by
  obtain ⟨n, hw⟩ := hw
  induction n generalizing l2 l3 l4 h with
  | zero => exact hw.elim
  | succ n ih => exact w_X1_orders_10 HE hr f0 (fun _ _ _ _ hk => ih hk) hw
def g_X1_orders (x0 x1 : Int) (Q : Int → Hp → Prop) (h : Hp) : Prop :=
  (capOK h 10) ∧ (∀ (a2 : Int) (m2 : Hp), a2 = hN h → m2 = alloc h 1 10 10 → WFa h → (Lp3 (g_X1_orders_L10 x0 x1 Q) a2 0 0 m2))
theorem w_X1_orders_0 {G : GT} {X : ET} {h0 : Hp} {x0 x1 : Int} (HE : XE G X cX1_orders 5 RX1 15 392 h0) (hr : XR X (some (.object "NextAtBar$Orders"))) (f0 : Lay_X1 h0 x0) {Q : Int → Hp → Prop} {h : Hp} (hw : g_X1_orders x0 x1 Q h) : Wx G X h0 (QR Q) h 0 [some (rV x0), some (iV x1), none, none, none] [] := by
  refine Wx.start (fun EB => ?_)
  unfold g_X1_orders at hw
  refine x_bipush HE dX1_orders_0 (by decide) ?_
  obtain ⟨v2, hw⟩ := hw
  refine x_newIN HE dX1_orders_2 q1019 (by decide) v2 (fun a2 m2 ea2 em2 E2 w2 => ?_)
  have hw := hw a2 m2 ea2 em2 w2
  have t2 := alloc_tag ea2 em2
  have l2 := alloc_len ea2 em2
  refine x_astore_n HE 2 (lo' := [some (rV x0), some (iV x1), some (rV a2), none, none]) dX1_orders_4 rfl (Nat.le_of_ble_eq_true rfl) rfl ?_
  refine x_iconst HE dX1_orders_5 (by decide) ?_
  refine x_istore_n HE 3 (lo' := [some (rV x0), some (iV x1), some (rV a2), some (iV 0), none]) dX1_orders_6 rfl (Nat.le_of_ble_eq_true rfl) rfl ?_
  refine x_iconst HE dX1_orders_7 (by decide) ?_
  refine x_istore HE (lo' := [some (rV x0), some (iV x1), some (rV a2), some (iV 0), some (iV 0)]) dX1_orders_8 (Nat.le_of_ble_eq_true rfl) rfl ?_
  exact wl_X1_orders_10 HE hr f0 hw
theorem k_X1_orders {G : GT} {x0 x1 : Int} {Q : Int → Hp → Prop} {h : Hp} (f0 : Lay_X1 h x0) (l : Launch) (hw : g_X1_orders x0 x1 Q h) : XM G l yX1_orders cX1_orders 5 (some (.object "NextAtBar$Orders")) 15 392 [rV x0, iV x1] (QR Q) h :=
  XM.of (by decide) (Nat.le_of_ble_eq_true rfl) (fun X HE hr hn => w_X1_orders_0 HE hr f0 hw)
def g_X1_row_b58 (x0 x1 x2 : Int) (Q : Int → Hp → Prop) (s0 : Int) (h : Hp) : Prop :=
  Q s0 h
theorem w_X1_row_58 {G : GT} {X : ET} {h0 : Hp} {x0 x1 x2 : Int} (HE : XE G X cX1_row 3 RX1 16 416 h0) (hr : XR X (some .int)) (f0 : Lay_X1 h0 x0) {Q : Int → Hp → Prop} {s0 : Int} {h : Hp} (hw : g_X1_row_b58 x0 x1 x2 Q s0 h) : Wx G X h0 (QI Q) h 58 [some (rV x0), some (iV x1), some (iV x2)] [iV s0] := by
  refine Wx.start (fun EB => ?_)
  unfold g_X1_row_b58 at hw
  exact x_iret HE hr dX1_row_58 hw
def g_X1_row_b22 (x0 x1 x2 : Int) (Q : Int → Hp → Prop) (h : Hp) : Prop :=
  g_X1_refused x0 1 (fun r24 m24 => Ext h m24 → (Q r24 m24)) h
theorem w_X1_row_22 {G : GT} {X : ET} {h0 : Hp} {x0 x1 x2 : Int} (HE : XE G X cX1_row 3 RX1 16 416 h0) (hr : XR X (some .int)) (f0 : Lay_X1 h0 x0) {Q : Int → Hp → Prop} {h : Hp} (hw : g_X1_row_b22 x0 x1 x2 Q  h) : Wx G X h0 (QI Q) h 22 [some (rV x0), some (iV x1), some (iV x2)] [] := by
  refine Wx.start (fun EB => ?_)
  unfold g_X1_row_b22 at hw
  refine x_aload_n HE 0 dX1_row_22 rfl rfl ?_
  refine x_iconst HE dX1_row_23 (by decide) ?_
  refine x_callV HE dX1_row_24 rfl (fun l => k_X1_refused (f0.ext EB) l hw) (As := [iV 1]) (rest := []) rfl xc11 (Lay_X1.tag (f0.ext EB)) (lw_V q279 q281 qs0 q123 q282) hy_X1_refused rfl rfl (Nat.le_of_ble_eq_true rfl) (Nat.le_of_ble_eq_true rfl) (Nat.le_of_ble_eq_true rfl) (kkI (fun r24 m24 E24 hw => ?_))
  have hw := hw E24
  exact x_iret HE hr dX1_row_27 hw
def g_X1_row (x0 x1 x2 : Int) (Q : Int → Hp → Prop) (h : Hp) : Prop :=
  g_X1_isServer x0 x1 (fun r2 m2 => Ext h m2 → (((r2 = 0) → (g_X1_row_b22 x0 x1 x2 Q m2)) ∧ ((r2 ≠ 0) → (g_X1_waitingNow x0 (fun r11 m11 => Ext m2 m11 → ((i32 (r11 - 1)) ∧ (g_X1_in x2 0 (r11 - 1) (fun r16 m16 => Ext m11 m16 → (((r16 ≠ 0) → (g_X1_waitingNow x0 (fun r29 m29 => Ext m16 m29 → (((r29 ≤ 7) → (g_X1_orders x0 x1 (fun r48 m48 => Ext m29 m48 → ((Lay_X22 m48 r48) ∧ (g_X22_at r48 x2 (fun r52 m52 => Ext m48 m52 → (g_X1_well x0 r52 (fun r55 m55 => Ext m52 m55 → (g_X1_row_b58 x0 x1 x2 Q r55 m55)) m52)) m48))) m29)) ∧ ((7 < r29) → (g_X1_refused x0 3 (fun r39 m39 => Ext m29 m39 → (g_X1_row_b58 x0 x1 x2 Q r39 m39)) m29)))) m16)) ∧ ((r16 = 0) → (g_X1_row_b22 x0 x1 x2 Q m16)))) m11))) m2)))) h
theorem w_X1_row_0 {G : GT} {X : ET} {h0 : Hp} {x0 x1 x2 : Int} (HE : XE G X cX1_row 3 RX1 16 416 h0) (hr : XR X (some .int)) (f0 : Lay_X1 h0 x0) {Q : Int → Hp → Prop} {h : Hp} (hw : g_X1_row x0 x1 x2 Q h) : Wx G X h0 (QI Q) h 0 [some (rV x0), some (iV x1), some (iV x2)] [] := by
  refine Wx.start (fun EB => ?_)
  unfold g_X1_row at hw
  refine x_aload_n HE 0 dX1_row_0 rfl rfl ?_
  refine x_iload_n HE 1 dX1_row_1 rfl rfl ?_
  refine x_callV HE dX1_row_2 rfl (fun l => k_X1_isServer (f0.ext EB) l hw) (As := [iV x1]) (rest := []) rfl xc11 (Lay_X1.tag (f0.ext EB)) (lw_V q1281 q1283 qs28 q123 q1284) hy_X1_isServer rfl rfl (Nat.le_of_ble_eq_true rfl) (Nat.le_of_ble_eq_true rfl) (Nat.le_of_ble_eq_true rfl) (kkI (fun r2 m2 E2 hw => ?_))
  have hw := hw E2
  refine x_if_eq HE 22 dX1_row_5 (by decide) (fun c5 => ?_) (fun c5 => ?_)
  · have hw := hw.1 c5
    exact w_X1_row_22 HE hr f0 hw
  · have hw := hw.2 c5
    refine x_iload_n HE 2 dX1_row_8 rfl rfl ?_
    refine x_iconst HE dX1_row_9 (by decide) ?_
    refine x_aload_n HE 0 dX1_row_10 rfl rfl ?_
    refine x_callV HE dX1_row_11 rfl (fun l => k_X1_waitingNow (f0.ext (EB.tr E2)) l hw) (As := []) (rest := [iV 0, iV x2]) rfl xc11 (Lay_X1.tag (f0.ext (EB.tr E2))) (lw_V q1307 q1309 qs30 q123 q1310) hy_X1_waitingNow rfl rfl (Nat.le_of_ble_eq_true rfl) (Nat.le_of_ble_eq_true rfl) (Nat.le_of_ble_eq_true rfl) (kkI (fun r11 m11 E11 hw => ?_))
    have hw := hw E11
    refine x_iconst HE dX1_row_14 (by decide) ?_
    obtain ⟨v15, hw⟩ := hw
    refine x_isub HE dX1_row_15 v15 ?_
    refine x_callS HE dX1_row_16 rfl (fun l => k_X1_in  l hw) (As := [iV x2, iV 0, iV (r11 - 1)]) (rest := []) rfl (lw_S q276 q277 q123 q278) hy_X1_in.2 rfl rfl (Nat.le_of_ble_eq_true rfl) (Nat.le_of_ble_eq_true rfl) (Nat.le_of_ble_eq_true rfl) (kkI (fun r16 m16 E16 hw => ?_))
    have hw := hw E16
    refine x_if_ne HE 28 dX1_row_19 (by decide) (fun c19 => ?_) (fun c19 => ?_)
    · have hw := hw.1 c19
      refine x_aload_n HE 0 dX1_row_28 rfl rfl ?_
      refine x_callV HE dX1_row_29 rfl (fun l => k_X1_waitingNow (f0.ext (EB.tr (E2.tr (E11.tr E16)))) l hw) (As := []) (rest := []) rfl xc11 (Lay_X1.tag (f0.ext (EB.tr (E2.tr (E11.tr E16))))) (lw_V q1307 q1309 qs30 q123 q1310) hy_X1_waitingNow rfl rfl (Nat.le_of_ble_eq_true rfl) (Nat.le_of_ble_eq_true rfl) (Nat.le_of_ble_eq_true rfl) (kkI (fun r29 m29 E29 hw => ?_))
      have hw := hw E29
      refine x_bipush HE dX1_row_32 (by decide) ?_
      refine x_ic_le HE 45 dX1_row_34 (by decide) (fun c34 => ?_) (fun c34 => ?_)
      · have hw := hw.1 c34
        refine x_aload_n HE 0 dX1_row_45 rfl rfl ?_
        refine x_aload_n HE 0 dX1_row_46 rfl rfl ?_
        refine x_iload_n HE 1 dX1_row_47 rfl rfl ?_
        refine x_callV HE dX1_row_48 rfl (fun l => k_X1_orders (f0.ext (EB.tr (E2.tr (E11.tr (E16.tr E29))))) l hw) (As := [iV x1]) (rest := [rV x0]) rfl xc11 (Lay_X1.tag (f0.ext (EB.tr (E2.tr (E11.tr (E16.tr E29)))))) (lw_V q1588 q1590 qs48 q123 q1591) hy_X1_orders rfl rfl (Nat.le_of_ble_eq_true rfl) (Nat.le_of_ble_eq_true rfl) (Nat.le_of_ble_eq_true rfl) (kkR (fun r48 m48 E48 hw => ?_))
        have hw := hw E48
        refine x_iload_n HE 2 dX1_row_51 rfl rfl ?_
        obtain ⟨u52_0, hw⟩ := hw
        refine x_callV HE dX1_row_52 rfl (fun l => k_X22_at u52_0 l hw) (As := [iV x2]) (rest := [rV x0]) rfl xc21 (Lay_X22.tag u52_0) (lw_V q1622 q1623 q1624 q158 q1625) hy_X22_at rfl rfl (Nat.le_of_ble_eq_true rfl) (Nat.le_of_ble_eq_true rfl) (Nat.le_of_ble_eq_true rfl) (kkI (fun r52 m52 E52 hw => ?_))
        have hw := hw E52
        refine x_callV HE dX1_row_55 rfl (fun l => k_X1_well (f0.ext (EB.tr (E2.tr (E11.tr (E16.tr (E29.tr (E48.tr E52))))))) l hw) (As := [iV r52]) (rest := []) rfl xc11 (Lay_X1.tag (f0.ext (EB.tr (E2.tr (E11.tr (E16.tr (E29.tr (E48.tr E52)))))))) (lw_V q1253 q1255 qs26 q123 q1256) hy_X1_well rfl rfl (Nat.le_of_ble_eq_true rfl) (Nat.le_of_ble_eq_true rfl) (Nat.le_of_ble_eq_true rfl) (kkI (fun r55 m55 E55 hw => ?_))
        have hw := hw E55
        exact w_X1_row_58 HE hr f0 hw
      · have hw := hw.2 c34
        refine x_aload_n HE 0 dX1_row_37 rfl rfl ?_
        refine x_iconst HE dX1_row_38 (by decide) ?_
        refine x_callV HE dX1_row_39 rfl (fun l => k_X1_refused (f0.ext (EB.tr (E2.tr (E11.tr (E16.tr E29))))) l hw) (As := [iV 3]) (rest := []) rfl xc11 (Lay_X1.tag (f0.ext (EB.tr (E2.tr (E11.tr (E16.tr E29)))))) (lw_V q279 q281 qs0 q123 q282) hy_X1_refused rfl rfl (Nat.le_of_ble_eq_true rfl) (Nat.le_of_ble_eq_true rfl) (Nat.le_of_ble_eq_true rfl) (kkI (fun r39 m39 E39 hw => ?_))
        have hw := hw E39
        refine x_goto HE 58 dX1_row_42 (by decide) ?_
        exact w_X1_row_58 HE hr f0 hw
    · have hw := hw.2 c19
      exact w_X1_row_22 HE hr f0 hw
theorem k_X1_row {G : GT} {x0 x1 x2 : Int} {Q : Int → Hp → Prop} {h : Hp} (f0 : Lay_X1 h x0) (l : Launch) (hw : g_X1_row x0 x1 x2 Q h) : XM G l yX1_row cX1_row 3 (some .int) 16 416 [rV x0, iV x1, iV x2] (QI Q) h :=
  XM.of (by decide) (Nat.le_of_ble_eq_true rfl) (fun X HE hr hn => w_X1_row_0 HE hr f0 hw)
def g_X1_rowSum_b43 (x0 x1 : Int) (Q : Int → Hp → Prop) (s0 : Int) (h : Hp) : Prop :=
  Q s0 h
theorem w_X1_rowSum_43 {G : GT} {X : ET} {h0 : Hp} {x0 x1 : Int} (HE : XE G X cX1_rowSum 2 RX1 16 416 h0) (hr : XR X (some .int)) (f0 : Lay_X1 h0 x0) {Q : Int → Hp → Prop} {s0 : Int} {h : Hp} (hw : g_X1_rowSum_b43 x0 x1 Q s0 h) : Wx G X h0 (QI Q) h 43 [some (rV x0), some (iV x1)] [iV s0] := by
  refine Wx.start (fun EB => ?_)
  unfold g_X1_rowSum_b43 at hw
  exact x_iret HE hr dX1_rowSum_43 hw
def g_X1_rowSum (x0 x1 : Int) (Q : Int → Hp → Prop) (h : Hp) : Prop :=
  g_X1_isServer x0 x1 (fun r2 m2 => Ext h m2 → (((r2 ≠ 0) → (g_X1_waitingNow x0 (fun r15 m15 => Ext m2 m15 → (((r15 ≤ 7) → (g_X1_orders x0 x1 (fun r34 m34 => Ext m15 m34 → ((Lay_X22 m34 r34) ∧ (g_X1_well x0 (hF m34 r34 4) (fun r40 m40 => Ext m34 m40 → (g_X1_rowSum_b43 x0 x1 Q r40 m40)) m34))) m15)) ∧ ((7 < r15) → (g_X1_refused x0 3 (fun r25 m25 => Ext m15 m25 → (g_X1_rowSum_b43 x0 x1 Q r25 m25)) m15)))) m2)) ∧ ((r2 = 0) → (g_X1_refused x0 1 (fun r10 m10 => Ext m2 m10 → (Q r10 m10)) m2)))) h
theorem w_X1_rowSum_0 {G : GT} {X : ET} {h0 : Hp} {x0 x1 : Int} (HE : XE G X cX1_rowSum 2 RX1 16 416 h0) (hr : XR X (some .int)) (f0 : Lay_X1 h0 x0) {Q : Int → Hp → Prop} {h : Hp} (hw : g_X1_rowSum x0 x1 Q h) : Wx G X h0 (QI Q) h 0 [some (rV x0), some (iV x1)] [] := by
  refine Wx.start (fun EB => ?_)
  unfold g_X1_rowSum at hw
  refine x_aload_n HE 0 dX1_rowSum_0 rfl rfl ?_
  refine x_iload_n HE 1 dX1_rowSum_1 rfl rfl ?_
  refine x_callV HE dX1_rowSum_2 rfl (fun l => k_X1_isServer (f0.ext EB) l hw) (As := [iV x1]) (rest := []) rfl xc11 (Lay_X1.tag (f0.ext EB)) (lw_V q1281 q1283 qs28 q123 q1284) hy_X1_isServer rfl rfl (Nat.le_of_ble_eq_true rfl) (Nat.le_of_ble_eq_true rfl) (Nat.le_of_ble_eq_true rfl) (kkI (fun r2 m2 E2 hw => ?_))
  have hw := hw E2
  refine x_if_ne HE 14 dX1_rowSum_5 (by decide) (fun c5 => ?_) (fun c5 => ?_)
  · have hw := hw.1 c5
    refine x_aload_n HE 0 dX1_rowSum_14 rfl rfl ?_
    refine x_callV HE dX1_rowSum_15 rfl (fun l => k_X1_waitingNow (f0.ext (EB.tr E2)) l hw) (As := []) (rest := []) rfl xc11 (Lay_X1.tag (f0.ext (EB.tr E2))) (lw_V q1307 q1309 qs30 q123 q1310) hy_X1_waitingNow rfl rfl (Nat.le_of_ble_eq_true rfl) (Nat.le_of_ble_eq_true rfl) (Nat.le_of_ble_eq_true rfl) (kkI (fun r15 m15 E15 hw => ?_))
    have hw := hw E15
    refine x_bipush HE dX1_rowSum_18 (by decide) ?_
    refine x_ic_le HE 31 dX1_rowSum_20 (by decide) (fun c20 => ?_) (fun c20 => ?_)
    · have hw := hw.1 c20
      refine x_aload_n HE 0 dX1_rowSum_31 rfl rfl ?_
      refine x_aload_n HE 0 dX1_rowSum_32 rfl rfl ?_
      refine x_iload_n HE 1 dX1_rowSum_33 rfl rfl ?_
      refine x_callV HE dX1_rowSum_34 rfl (fun l => k_X1_orders (f0.ext (EB.tr (E2.tr E15))) l hw) (As := [iV x1]) (rest := [rV x0]) rfl xc11 (Lay_X1.tag (f0.ext (EB.tr (E2.tr E15)))) (lw_V q1588 q1590 qs48 q123 q1591) hy_X1_orders rfl rfl (Nat.le_of_ble_eq_true rfl) (Nat.le_of_ble_eq_true rfl) (Nat.le_of_ble_eq_true rfl) (kkR (fun r34 m34 E34 hw => ?_))
      have hw := hw E34
      obtain ⟨v37, hw⟩ := hw
      refine x_gI HE dX1_rowSum_37 fd_X22_4 q1610 (Or.inl rfl) (Lay_X22.tag v37) rfl ?_
      refine x_callV HE dX1_rowSum_40 rfl (fun l => k_X1_well (f0.ext (EB.tr (E2.tr (E15.tr E34)))) l hw) (As := [iV (hF m34 r34 4)]) (rest := []) rfl xc11 (Lay_X1.tag (f0.ext (EB.tr (E2.tr (E15.tr E34))))) (lw_V q1253 q1255 qs26 q123 q1256) hy_X1_well rfl rfl (Nat.le_of_ble_eq_true rfl) (Nat.le_of_ble_eq_true rfl) (Nat.le_of_ble_eq_true rfl) (kkI (fun r40 m40 E40 hw => ?_))
      have hw := hw E40
      exact w_X1_rowSum_43 HE hr f0 hw
    · have hw := hw.2 c20
      refine x_aload_n HE 0 dX1_rowSum_23 rfl rfl ?_
      refine x_iconst HE dX1_rowSum_24 (by decide) ?_
      refine x_callV HE dX1_rowSum_25 rfl (fun l => k_X1_refused (f0.ext (EB.tr (E2.tr E15))) l hw) (As := [iV 3]) (rest := []) rfl xc11 (Lay_X1.tag (f0.ext (EB.tr (E2.tr E15)))) (lw_V q279 q281 qs0 q123 q282) hy_X1_refused rfl rfl (Nat.le_of_ble_eq_true rfl) (Nat.le_of_ble_eq_true rfl) (Nat.le_of_ble_eq_true rfl) (kkI (fun r25 m25 E25 hw => ?_))
      have hw := hw E25
      refine x_goto HE 43 dX1_rowSum_28 (by decide) ?_
      exact w_X1_rowSum_43 HE hr f0 hw
  · have hw := hw.2 c5
    refine x_aload_n HE 0 dX1_rowSum_8 rfl rfl ?_
    refine x_iconst HE dX1_rowSum_9 (by decide) ?_
    refine x_callV HE dX1_rowSum_10 rfl (fun l => k_X1_refused (f0.ext (EB.tr E2)) l hw) (As := [iV 1]) (rest := []) rfl xc11 (Lay_X1.tag (f0.ext (EB.tr E2))) (lw_V q279 q281 qs0 q123 q282) hy_X1_refused rfl rfl (Nat.le_of_ble_eq_true rfl) (Nat.le_of_ble_eq_true rfl) (Nat.le_of_ble_eq_true rfl) (kkI (fun r10 m10 E10 hw => ?_))
    have hw := hw E10
    exact x_iret HE hr dX1_rowSum_13 hw
theorem k_X1_rowSum {G : GT} {x0 x1 : Int} {Q : Int → Hp → Prop} {h : Hp} (f0 : Lay_X1 h x0) (l : Launch) (hw : g_X1_rowSum x0 x1 Q h) : XM G l yX1_rowSum cX1_rowSum 2 (some .int) 16 416 [rV x0, iV x1] (QI Q) h :=
  XM.of (by decide) (Nat.le_of_ble_eq_true rfl) (fun X HE hr hn => w_X1_rowSum_0 HE hr f0 hw)
def g_X1_liars_b33 (x0 : Int) (Q : Int → Hp → Prop) (s0 : Int) (h : Hp) : Prop :=
  Q s0 h
theorem w_X1_liars_33 {G : GT} {X : ET} {h0 : Hp} {x0 : Int} (HE : XE G X cX1_liars 1 RX1 5 109 h0) (hr : XR X (some .int)) (f0 : Lay_X1 h0 x0) {Q : Int → Hp → Prop} {s0 : Int} {h : Hp} (hw : g_X1_liars_b33 x0 Q s0 h) : Wx G X h0 (QI Q) h 33 [some (rV x0)] [iV s0] := by
  refine Wx.start (fun EB => ?_)
  unfold g_X1_liars_b33 at hw
  exact x_iret HE hr dX1_liars_33 hw
def g_X1_liars (x0 : Int) (Q : Int → Hp → Prop) (h : Hp) : Prop :=
  ((0 < (hF h x0 5)) → ((capOK h 2) ∧ (∀ (a16 : Int) (m16 : Hp), a16 = hN h → m16 = alloc h 22 0 2 → WFa h → (g_X23_init a16 (hF m16 x0 5) (fun m24 => Ext m16 m24 → ((Lay_X23 m24 a16) ∧ (g_X23_liars a16 (fun r27 m27 => Ext m24 m27 → (g_X1_well x0 r27 (fun r30 m30 => Ext m27 m30 → (g_X1_liars_b33 x0 Q r30 m30)) m27)) m24))) m16)))) ∧ (((hF h x0 5) = 0) → (g_X1_refused x0 1 (fun r9 m9 => Ext h m9 → (g_X1_liars_b33 x0 Q r9 m9)) h))
theorem w_X1_liars_0 {G : GT} {X : ET} {h0 : Hp} {x0 : Int} (HE : XE G X cX1_liars 1 RX1 5 109 h0) (hr : XR X (some .int)) (f0 : Lay_X1 h0 x0) {Q : Int → Hp → Prop} {h : Hp} (hw : g_X1_liars x0 Q h) : Wx G X h0 (QI Q) h 0 [some (rV x0)] [] := by
  refine Wx.start (fun EB => ?_)
  unfold g_X1_liars at hw
  refine x_aload_n HE 0 dX1_liars_0 rfl rfl ?_
  refine x_gR HE dX1_liars_1 fd_X1_5 q227 (Or.inl rfl) (Lay_X1.tag (f0.ext EB)) rfl ?_
  refine x_ifnonnull HE 15 dX1_liars_4 (by decide) (fun c4 => ?_) (fun c4 => ?_)
  · have hw := hw.1 c4
    refine x_aload_n HE 0 dX1_liars_15 rfl rfl ?_
    obtain ⟨v16, hw⟩ := hw
    refine x_newN HE dX1_liars_16 xc22 (by decide) (nro (by decide)) q1634 q1635 q159 v16 (fun a16 m16 ea16 em16 E16 w16 => ?_)
    have hw := hw a16 m16 ea16 em16 w16
    have t16 := alloc_tag ea16 em16
    refine x_dup HE dX1_liars_19 (fun o => o) ?_
    refine x_aload_n HE 0 dX1_liars_20 rfl rfl ?_
    refine x_gR HE dX1_liars_21 fd_X1_5 q227 (Or.inl rfl) (Lay_X1.tag (f0.ext (EB.tr E16))) rfl ?_
    refine Wx.wf (fun wf24 => ?_)
    refine x_callI HE dX1_liars_24 rfl (fun l => k_X23_init t16 l hw) (As := [rV (hF m16 x0 5)]) (rest := [rV a16, rV x0]) rfl (tag_pos wf24 t16 (by decide)) q1636 q159 q1637 q1638 rfl hy_X23_init.2 rfl rfl (Nat.le_of_ble_eq_true rfl) (Nat.le_of_ble_eq_true rfl) (Nat.le_of_ble_eq_true rfl) (kkV (fun m24 E24 hw => ?_))
    have hw := hw E24
    obtain ⟨u27_0, hw⟩ := hw
    refine x_callV HE dX1_liars_27 rfl (fun l => k_X23_liars u27_0 l hw) (As := []) (rest := [rV x0]) rfl xc22 (Lay_X23.tag u27_0) (lw_V q1647 q1648 q1649 q159 q1650) hy_X23_liars rfl rfl (Nat.le_of_ble_eq_true rfl) (Nat.le_of_ble_eq_true rfl) (Nat.le_of_ble_eq_true rfl) (kkI (fun r27 m27 E27 hw => ?_))
    have hw := hw E27
    refine x_callV HE dX1_liars_30 rfl (fun l => k_X1_well (f0.ext (EB.tr (E16.tr (E24.tr E27)))) l hw) (As := [iV r27]) (rest := []) rfl xc11 (Lay_X1.tag (f0.ext (EB.tr (E16.tr (E24.tr E27))))) (lw_V q1253 q1255 qs26 q123 q1256) hy_X1_well rfl rfl (Nat.le_of_ble_eq_true rfl) (Nat.le_of_ble_eq_true rfl) (Nat.le_of_ble_eq_true rfl) (kkI (fun r30 m30 E30 hw => ?_))
    have hw := hw E30
    exact w_X1_liars_33 HE hr f0 hw
  · have hw := hw.2 c4
    refine x_aload_n HE 0 dX1_liars_7 rfl rfl ?_
    refine x_iconst HE dX1_liars_8 (by decide) ?_
    refine x_callV HE dX1_liars_9 rfl (fun l => k_X1_refused (f0.ext EB) l hw) (As := [iV 1]) (rest := []) rfl xc11 (Lay_X1.tag (f0.ext EB)) (lw_V q279 q281 qs0 q123 q282) hy_X1_refused rfl rfl (Nat.le_of_ble_eq_true rfl) (Nat.le_of_ble_eq_true rfl) (Nat.le_of_ble_eq_true rfl) (kkI (fun r9 m9 E9 hw => ?_))
    have hw := hw E9
    refine x_goto HE 33 dX1_liars_12 (by decide) ?_
    exact w_X1_liars_33 HE hr f0 hw
theorem k_X1_liars {G : GT} {x0 : Int} {Q : Int → Hp → Prop} {h : Hp} (f0 : Lay_X1 h x0) (l : Launch) (hw : g_X1_liars x0 Q h) : XM G l yX1_liars cX1_liars 1 (some .int) 5 109 [rV x0] (QI Q) h :=
  XM.of (by decide) (Nat.le_of_ble_eq_true rfl) (fun X HE hr hn => w_X1_liars_0 HE hr f0 hw)
def g_X1_surely_b63 (x0 x1 x2 : Int) (Q : Int → Hp → Prop) (s0 s1 : Int) (h : Hp) : Prop :=
  (Lay_X1 h s0) ∧ (g_X1_well s0 s1 (fun r63 m63 => Ext h m63 → (Q r63 m63)) h)
theorem w_X1_surely_63 {G : GT} {X : ET} {h0 : Hp} {x0 x1 x2 : Int} (HE : XE G X cX1_surely 4 RX1 5 109 h0) (hr : XR X (some .int)) (f0 : Lay_X1 h0 x0) {Q : Int → Hp → Prop} {s0 s1 : Int} {h : Hp} (hw : g_X1_surely_b63 x0 x1 x2 Q s0 s1 h) : Wx G X h0 (QI Q) h 63 [some (rV x0), some (iV x1), some (iV x2), none] [iV s1, rV s0] := by
  refine Wx.start (fun EB => ?_)
  unfold g_X1_surely_b63 at hw
  obtain ⟨u63_0, hw⟩ := hw
  refine x_callV HE dX1_surely_63 rfl (fun l => k_X1_well u63_0 l hw) (As := [iV s1]) (rest := []) rfl xc11 (Lay_X1.tag u63_0) (lw_V q1253 q1255 qs26 q123 q1256) hy_X1_well rfl rfl (Nat.le_of_ble_eq_true rfl) (Nat.le_of_ble_eq_true rfl) (Nat.le_of_ble_eq_true rfl) (kkI (fun r63 m63 E63 hw => ?_))
  have hw := hw E63
  exact x_iret HE hr dX1_surely_66 hw
def g_X1_surely_b21 (x0 x1 x2 : Int) (Q : Int → Hp → Prop) (h : Hp) : Prop :=
  g_X1_refused x0 1 (fun r23 m23 => Ext h m23 → (Q r23 m23)) h
theorem w_X1_surely_21 {G : GT} {X : ET} {h0 : Hp} {x0 x1 x2 : Int} (HE : XE G X cX1_surely 4 RX1 5 109 h0) (hr : XR X (some .int)) (f0 : Lay_X1 h0 x0) {Q : Int → Hp → Prop} {h : Hp} (hw : g_X1_surely_b21 x0 x1 x2 Q  h) : Wx G X h0 (QI Q) h 21 [some (rV x0), some (iV x1), some (iV x2), none] [] := by
  refine Wx.start (fun EB => ?_)
  unfold g_X1_surely_b21 at hw
  refine x_aload_n HE 0 dX1_surely_21 rfl rfl ?_
  refine x_iconst HE dX1_surely_22 (by decide) ?_
  refine x_callV HE dX1_surely_23 rfl (fun l => k_X1_refused (f0.ext EB) l hw) (As := [iV 1]) (rest := []) rfl xc11 (Lay_X1.tag (f0.ext EB)) (lw_V q279 q281 qs0 q123 q282) hy_X1_refused rfl rfl (Nat.le_of_ble_eq_true rfl) (Nat.le_of_ble_eq_true rfl) (Nat.le_of_ble_eq_true rfl) (kkI (fun r23 m23 E23 hw => ?_))
  have hw := hw E23
  exact x_iret HE hr dX1_surely_26 hw
def g_X1_surely (x0 x1 x2 : Int) (Q : Int → Hp → Prop) (h : Hp) : Prop :=
  g_X1_isPerson x0 x1 (fun r2 m2 => Ext h m2 → (((r2 = 0) → (g_X1_surely_b21 x0 x1 x2 Q m2)) ∧ ((r2 ≠ 0) → (g_X1_isPerson x0 x2 (fun r10 m10 => Ext m2 m10 → (((r10 = 0) → (g_X1_surely_b21 x0 x1 x2 Q m10)) ∧ ((r10 ≠ 0) → (((x1 ≠ x2) → ((capOK m10 2) ∧ (∀ (a27 : Int) (m27 : Hp), a27 = hN m10 → m27 = alloc m10 22 0 2 → WFa m10 → (g_X23_init a27 (hF m27 x0 5) (fun m35 => Ext m27 m35 → ((Lay_X23 m35 a27) ∧ (g_X23_liars a27 (fun r41 m41 => Ext m35 m41 → (g_X23_canBe a27 r41 (fun r44 m44 => Ext m41 m44 → (g_X23_isAhead a27 x1 x2 (fun r52 m52 => Ext m44 m52 → (((r52 = 0) → (g_X1_surely_b63 x0 x1 x2 Q x0 0 m52)) ∧ ((r52 ≠ 0) → (g_X1_surely_b63 x0 x1 x2 Q x0 1 m52)))) m44)) m41)) m35))) m27)))) ∧ ((x1 = x2) → (g_X1_surely_b21 x0 x1 x2 Q m10)))))) m2)))) h
theorem w_X1_surely_0 {G : GT} {X : ET} {h0 : Hp} {x0 x1 x2 : Int} (HE : XE G X cX1_surely 4 RX1 5 109 h0) (hr : XR X (some .int)) (f0 : Lay_X1 h0 x0) {Q : Int → Hp → Prop} {h : Hp} (hw : g_X1_surely x0 x1 x2 Q h) : Wx G X h0 (QI Q) h 0 [some (rV x0), some (iV x1), some (iV x2), none] [] := by
  refine Wx.start (fun EB => ?_)
  unfold g_X1_surely at hw
  refine x_aload_n HE 0 dX1_surely_0 rfl rfl ?_
  refine x_iload_n HE 1 dX1_surely_1 rfl rfl ?_
  refine x_callV HE dX1_surely_2 rfl (fun l => k_X1_isPerson (f0.ext EB) l hw) (As := [iV x1]) (rest := []) rfl xc11 (Lay_X1.tag (f0.ext EB)) (lw_V q1269 q1271 qs27 q123 q1272) hy_X1_isPerson rfl rfl (Nat.le_of_ble_eq_true rfl) (Nat.le_of_ble_eq_true rfl) (Nat.le_of_ble_eq_true rfl) (kkI (fun r2 m2 E2 hw => ?_))
  have hw := hw E2
  refine x_if_eq HE 21 dX1_surely_5 (by decide) (fun c5 => ?_) (fun c5 => ?_)
  · have hw := hw.1 c5
    exact w_X1_surely_21 HE hr f0 hw
  · have hw := hw.2 c5
    refine x_aload_n HE 0 dX1_surely_8 rfl rfl ?_
    refine x_iload_n HE 2 dX1_surely_9 rfl rfl ?_
    refine x_callV HE dX1_surely_10 rfl (fun l => k_X1_isPerson (f0.ext (EB.tr E2)) l hw) (As := [iV x2]) (rest := []) rfl xc11 (Lay_X1.tag (f0.ext (EB.tr E2))) (lw_V q1269 q1271 qs27 q123 q1272) hy_X1_isPerson rfl rfl (Nat.le_of_ble_eq_true rfl) (Nat.le_of_ble_eq_true rfl) (Nat.le_of_ble_eq_true rfl) (kkI (fun r10 m10 E10 hw => ?_))
    have hw := hw E10
    refine x_if_eq HE 21 dX1_surely_13 (by decide) (fun c13 => ?_) (fun c13 => ?_)
    · have hw := hw.1 c13
      exact w_X1_surely_21 HE hr f0 hw
    · have hw := hw.2 c13
      refine x_iload_n HE 1 dX1_surely_16 rfl rfl ?_
      refine x_iload_n HE 2 dX1_surely_17 rfl rfl ?_
      refine x_ic_ne HE 27 dX1_surely_18 (by decide) (fun c18 => ?_) (fun c18 => ?_)
      · have hw := hw.1 c18
        obtain ⟨v27, hw⟩ := hw
        refine x_newN HE dX1_surely_27 xc22 (by decide) (nro (by decide)) q1634 q1635 q159 v27 (fun a27 m27 ea27 em27 E27 w27 => ?_)
        have hw := hw a27 m27 ea27 em27 w27
        have t27 := alloc_tag ea27 em27
        refine x_dup HE dX1_surely_30 (fun o => o) ?_
        refine x_aload_n HE 0 dX1_surely_31 rfl rfl ?_
        refine x_gR HE dX1_surely_32 fd_X1_5 q227 (Or.inl rfl) (Lay_X1.tag (f0.ext (EB.tr (E2.tr (E10.tr E27))))) rfl ?_
        refine Wx.wf (fun wf35 => ?_)
        refine x_callI HE dX1_surely_35 rfl (fun l => k_X23_init t27 l hw) (As := [rV (hF m27 x0 5)]) (rest := [rV a27]) rfl (tag_pos wf35 t27 (by decide)) q1636 q159 q1637 q1638 rfl hy_X23_init.2 rfl rfl (Nat.le_of_ble_eq_true rfl) (Nat.le_of_ble_eq_true rfl) (Nat.le_of_ble_eq_true rfl) (kkV (fun m35 E35 hw => ?_))
        have hw := hw E35
        refine x_astore_n HE 3 (lo' := [some (rV x0), some (iV x1), some (iV x2), some (rV a27)]) dX1_surely_38 rfl (Nat.le_of_ble_eq_true rfl) rfl ?_
        refine x_aload_n HE 3 dX1_surely_39 rfl rfl ?_
        refine x_aload_n HE 3 dX1_surely_40 rfl rfl ?_
        obtain ⟨u41_0, hw⟩ := hw
        refine x_callV HE dX1_surely_41 rfl (fun l => k_X23_liars u41_0 l hw) (As := []) (rest := [rV a27]) rfl xc22 (Lay_X23.tag u41_0) (lw_V q1647 q1648 q1649 q159 q1650) hy_X23_liars rfl rfl (Nat.le_of_ble_eq_true rfl) (Nat.le_of_ble_eq_true rfl) (Nat.le_of_ble_eq_true rfl) (kkI (fun r41 m41 E41 hw => ?_))
        have hw := hw E41
        refine x_callV HE dX1_surely_44 rfl (fun l => k_X23_canBe (u41_0.ext E41) l hw) (As := [iV r41]) (rest := []) rfl xc22 (Lay_X23.tag (u41_0.ext E41)) (lw_V q1664 q1654 q1655 q159 q1656) hy_X23_canBe rfl rfl (Nat.le_of_ble_eq_true rfl) (Nat.le_of_ble_eq_true rfl) (Nat.le_of_ble_eq_true rfl) (kkI (fun r44 m44 E44 hw => ?_))
        have hw := hw E44
        refine x_pop HE dX1_surely_47 (fun o => o) ?_
        refine x_aload_n HE 0 dX1_surely_48 rfl rfl ?_
        refine x_aload_n HE 3 dX1_surely_49 rfl rfl ?_
        refine x_iload_n HE 1 dX1_surely_50 rfl rfl ?_
        refine x_iload_n HE 2 dX1_surely_51 rfl rfl ?_
        refine x_callV HE dX1_surely_52 rfl (fun l => k_X23_isAhead (u41_0.ext (E41.tr E44)) l hw) (As := [iV x1, iV x2]) (rest := [rV x0]) rfl xc22 (Lay_X23.tag (u41_0.ext (E41.tr E44))) (lw_V q1665 q1666 q1667 q159 q1668) hy_X23_isAhead rfl rfl (Nat.le_of_ble_eq_true rfl) (Nat.le_of_ble_eq_true rfl) (Nat.le_of_ble_eq_true rfl) (kkI (fun r52 m52 E52 hw => ?_))
        have hw := hw E52
        refine x_if_eq HE 62 dX1_surely_55 (by decide) (fun c55 => ?_) (fun c55 => ?_)
        · have hw := hw.1 c55
          refine x_iconst HE dX1_surely_62 (by decide) ?_
          refine Wx.mask [true, true, true, false] (lo2 := [some (rV x0), some (iV x1), some (iV x2), none]) rfl ?_
          exact w_X1_surely_63 HE hr f0 hw
        · have hw := hw.2 c55
          refine x_iconst HE dX1_surely_58 (by decide) ?_
          refine x_goto HE 63 dX1_surely_59 (by decide) ?_
          refine Wx.mask [true, true, true, false] (lo2 := [some (rV x0), some (iV x1), some (iV x2), none]) rfl ?_
          exact w_X1_surely_63 HE hr f0 hw
      · have hw := hw.2 c18
        exact w_X1_surely_21 HE hr f0 hw
theorem k_X1_surely {G : GT} {x0 x1 x2 : Int} {Q : Int → Hp → Prop} {h : Hp} (f0 : Lay_X1 h x0) (l : Launch) (hw : g_X1_surely x0 x1 x2 Q h) : XM G l yX1_surely cX1_surely 4 (some .int) 5 109 [rV x0, iV x1, iV x2] (QI Q) h :=
  XM.of (by decide) (Nat.le_of_ble_eq_true rfl) (fun X HE hr hn => w_X1_surely_0 HE hr f0 hw)
def g_X1_so_b89 (x0 : Int) (Q : Int → Hp → Prop) (l1 : Int) (h : Hp) : Prop :=
  g_X1_well x0 l1 (fun r91 m91 => Ext h m91 → (Q r91 m91)) h
theorem w_X1_so_89 {G : GT} {X : ET} {h0 : Hp} {x0 : Int} (HE : XE G X cX1_so 3 RX1 4 86 h0) (hr : XR X (some .int)) (f0 : Lay_X1 h0 x0) {Q : Int → Hp → Prop} {l1 : Int} {h : Hp} (hw : g_X1_so_b89 x0 Q l1 h) : Wx G X h0 (QI Q) h 89 [some (rV x0), some (iV l1), none] [] := by
  refine Wx.start (fun EB => ?_)
  unfold g_X1_so_b89 at hw
  refine x_aload_n HE 0 dX1_so_89 rfl rfl ?_
  refine x_iload_n HE 1 dX1_so_90 rfl rfl ?_
  refine x_callV HE dX1_so_91 rfl (fun l => k_X1_well (f0.ext EB) l hw) (As := [iV l1]) (rest := []) rfl xc11 (Lay_X1.tag (f0.ext EB)) (lw_V q1253 q1255 qs26 q123 q1256) hy_X1_well rfl rfl (Nat.le_of_ble_eq_true rfl) (Nat.le_of_ble_eq_true rfl) (Nat.le_of_ble_eq_true rfl) (kkI (fun r91 m91 E91 hw => ?_))
  have hw := hw E91
  exact x_iret HE hr dX1_so_94 hw
def g_X1_so_b81 (x0 : Int) (Q : Int → Hp → Prop) (K17 : Int → Int → Hp → Prop) (l2 s0 s1 : Int) (h : Hp) : Prop :=
  (i32 (s0 + s1)) ∧ (∀ y82 : Int, y82 = (s0 + s1) → ((i32 (l2 + 1)) ∧ (∀ y83 : Int, y83 = l2 + 1 → (K17 y82 y83 h))))
theorem w_X1_so_81 {G : GT} {X : ET} {h0 : Hp} {x0 : Int} (HE : XE G X cX1_so 3 RX1 4 86 h0) (hr : XR X (some .int)) (f0 : Lay_X1 h0 x0) {Q : Int → Hp → Prop} {K17 : Int → Int → Hp → Prop} (hK17 : ∀ (l1 l2 : Int) (h : Hp), K17 l1 l2 h → Wx G X h0 (QI Q) h 17 [some (rV x0), some (iV l1), some (iV l2)] []) {l2 s0 s1 : Int} {h : Hp} (hw : g_X1_so_b81 x0 Q K17 l2 s0 s1 h) : Wx G X h0 (QI Q) h 81 [some (rV x0), none, some (iV l2)] [iV s1, iV s0] := by
  refine Wx.start (fun EB => ?_)
  unfold g_X1_so_b81 at hw
  obtain ⟨v81, hw⟩ := hw
  refine x_iadd HE dX1_so_81 v81 ?_
  refine x_istore_nN HE 1 (fun y82 => [some (rV x0), some (iV y82), some (iV l2)]) dX1_so_82 rfl (Nat.le_of_ble_eq_true rfl) (fun _ => rfl) (fun y82 ey82 => ?_)
  have hw := hw y82 ey82
  obtain ⟨v83, hw⟩ := hw
  refine x_iincN HE (fun y83 => [some (rV x0), some (iV y82), some (iV y83)]) dX1_so_83 rfl v83 (Nat.le_of_ble_eq_true rfl) (fun _ => rfl) (fun y83 ey83 => ?_)
  have hw := hw y83 ey83
  refine x_goto HE 17 dX1_so_86 (by decide) ?_
  exact hK17 _ _ _ hw
def g_X1_so_L17 (x0 : Int) (Q : Int → Hp → Prop) (K17 : Int → Int → Hp → Prop) (l1 l2 : Int) (h : Hp) : Prop :=
  (Lay_X7 h (hF h x0 5)) ∧ (g_J2_size ((hF h x0 5) + 4) (fun r25 m25 => Ext h m25 → (((r25 ≤ l2) → (g_X1_so_b89 x0 Q l1 m25)) ∧ ((l2 < r25) → ((Lay_X7 m25 (hF m25 x0 5)) ∧ (g_J2_get ((hF m25 x0 5) + 4) l2 (fun r44 m44 => Ext m25 m44 → ((hT m44 r44 = 17) ∧ ((Lay_X7 m44 (hF m44 x0 5)) ∧ (g_J2_get ((hF m44 x0 5) + 4) l2 (fun r61 m61 => Ext m44 m61 → ((hT m61 r61 = 17) ∧ ((Lay_X7 m61 (hF m25 x0 5)) ∧ (g_X7_isAhead (hF m25 x0 5) (hF m44 r44 1) (hF m61 r61 2) (fun r70 m70 => Ext m61 m70 → (((r70 = 0) → (g_X1_so_b81 x0 Q K17 l2 l1 0 m70)) ∧ ((r70 ≠ 0) → (g_X1_so_b81 x0 Q K17 l2 l1 1 m70)))) m61)))) m44)))) m25))))) h)
theorem w_X1_so_17 {G : GT} {X : ET} {h0 : Hp} {x0 : Int} (HE : XE G X cX1_so 3 RX1 4 86 h0) (hr : XR X (some .int)) (f0 : Lay_X1 h0 x0) {Q : Int → Hp → Prop} {K17 : Int → Int → Hp → Prop} (hK17 : ∀ (l1 l2 : Int) (h : Hp), K17 l1 l2 h → Wx G X h0 (QI Q) h 17 [some (rV x0), some (iV l1), some (iV l2)] []) {l1 l2 : Int} {h : Hp} (hw : g_X1_so_L17 x0 Q K17 l1 l2 h) : Wx G X h0 (QI Q) h 17 [some (rV x0), some (iV l1), some (iV l2)] [] := by
  refine Wx.start (fun EB => ?_)
  unfold g_X1_so_L17 at hw
  refine x_iload_n HE 2 dX1_so_17 rfl rfl ?_
  refine x_aload_n HE 0 dX1_so_18 rfl rfl ?_
  refine x_gR HE dX1_so_19 fd_X1_5 q227 (Or.inl rfl) (Lay_X1.tag (f0.ext EB)) rfl ?_
  obtain ⟨v22, hw⟩ := hw
  refine x_gR HE dX1_so_22 fd_X7_6 q335 (Or.inl rfl) (Lay_X7.tag v22) (Lay_X7_6 v22).1 ?_
  refine x_callV HE dX1_so_25 rfl (fun l => k_J2_size ((Lay_X7_6 v22).2) l hw) (As := []) (rest := [iV l2]) rfl xc32 ((Lay_X7_6 v22).2) (lw_V q1252 q708 q709 q128 q710) hy_J2_size rfl rfl (Nat.le_of_ble_eq_true rfl) (Nat.le_of_ble_eq_true rfl) (Nat.le_of_ble_eq_true rfl) (kkI (fun r25 m25 E25 hw => ?_))
  have hw := hw E25
  refine x_ic_ge HE 89 dX1_so_28 (by decide) (fun c28 => ?_) (fun c28 => ?_)
  · have hw := hw.1 c28
    refine Wx.mask [true, true, false] (lo2 := [some (rV x0), some (iV l1), none]) rfl ?_
    exact w_X1_so_89 HE hr f0 hw
  · have hw := hw.2 c28
    refine x_iload_n HE 1 dX1_so_31 rfl rfl ?_
    refine x_aload_n HE 0 dX1_so_32 rfl rfl ?_
    refine x_gR HE dX1_so_33 fd_X1_5 q227 (Or.inl rfl) (Lay_X1.tag (f0.ext (EB.tr E25))) rfl ?_
    refine x_aload_n HE 0 dX1_so_36 rfl rfl ?_
    refine x_gR HE dX1_so_37 fd_X1_5 q227 (Or.inl rfl) (Lay_X1.tag (f0.ext (EB.tr E25))) rfl ?_
    obtain ⟨v40, hw⟩ := hw
    refine x_gR HE dX1_so_40 fd_X7_6 q335 (Or.inl rfl) (Lay_X7.tag v40) (Lay_X7_6 v40).1 ?_
    refine x_iload_n HE 2 dX1_so_43 rfl rfl ?_
    refine x_callV HE dX1_so_44 rfl (fun l => k_J2_get ((Lay_X7_6 v40).2) l hw) (As := [iV l2]) (rest := [rV (hF m25 x0 5), iV l1]) rfl xc32 ((Lay_X7_6 v40).2) (lw_V q1500 q736 q737 q128 q738) hy_J2_get rfl rfl (Nat.le_of_ble_eq_true rfl) (Nat.le_of_ble_eq_true rfl) (Nat.le_of_ble_eq_true rfl) (kkR (fun r44 m44 E44 hw => ?_))
    have hw := hw E44
    obtain ⟨v47, hw⟩ := hw
    refine x_castS HE dX1_so_47 xc17 q1673 v47 ?_
    refine x_gI HE dX1_so_50 fd_X20_1 q1063 (Or.inl rfl) v47 rfl ?_
    refine x_aload_n HE 0 dX1_so_53 rfl rfl ?_
    refine x_gR HE dX1_so_54 fd_X1_5 q227 (Or.inl rfl) (Lay_X1.tag (f0.ext (EB.tr (E25.tr E44)))) rfl ?_
    obtain ⟨v57, hw⟩ := hw
    refine x_gR HE dX1_so_57 fd_X7_6 q335 (Or.inl rfl) (Lay_X7.tag v57) (Lay_X7_6 v57).1 ?_
    refine x_iload_n HE 2 dX1_so_60 rfl rfl ?_
    refine x_callV HE dX1_so_61 rfl (fun l => k_J2_get ((Lay_X7_6 v57).2) l hw) (As := [iV l2]) (rest := [iV (hF m44 r44 1), rV (hF m25 x0 5), iV l1]) rfl xc32 ((Lay_X7_6 v57).2) (lw_V q1500 q736 q737 q128 q738) hy_J2_get rfl rfl (Nat.le_of_ble_eq_true rfl) (Nat.le_of_ble_eq_true rfl) (Nat.le_of_ble_eq_true rfl) (kkR (fun r61 m61 E61 hw => ?_))
    have hw := hw E61
    obtain ⟨v64, hw⟩ := hw
    refine x_castS HE dX1_so_64 xc17 q1673 v64 ?_
    refine x_gI HE dX1_so_67 fd_X20_2 q1066 (Or.inl rfl) v64 rfl ?_
    obtain ⟨u70_0, hw⟩ := hw
    refine x_callV HE dX1_so_70 rfl (fun l => k_X7_isAhead u70_0 l hw) (As := [iV (hF m44 r44 1), iV (hF m61 r61 2)]) (rest := [iV l1]) rfl xc12 (Lay_X7.tag u70_0) (lw_V q1674 q1350 q1351 q132 q1352) hy_X7_isAhead rfl rfl (Nat.le_of_ble_eq_true rfl) (Nat.le_of_ble_eq_true rfl) (Nat.le_of_ble_eq_true rfl) (kkI (fun r70 m70 E70 hw => ?_))
    have hw := hw E70
    refine x_if_eq HE 80 dX1_so_73 (by decide) (fun c73 => ?_) (fun c73 => ?_)
    · have hw := hw.1 c73
      refine x_iconst HE dX1_so_80 (by decide) ?_
      refine Wx.mask [true, false, true] (lo2 := [some (rV x0), none, some (iV l2)]) rfl ?_
      exact w_X1_so_81 HE hr f0 hK17 hw
    · have hw := hw.2 c73
      refine x_iconst HE dX1_so_76 (by decide) ?_
      refine x_goto HE 81 dX1_so_77 (by decide) ?_
      refine Wx.mask [true, false, true] (lo2 := [some (rV x0), none, some (iV l2)]) rfl ?_
      exact w_X1_so_81 HE hr f0 hK17 hw
theorem wl_X1_so_17 {G : GT} {X : ET} {h0 : Hp} {x0 : Int} (HE : XE G X cX1_so 3 RX1 4 86 h0) (hr : XR X (some .int)) (f0 : Lay_X1 h0 x0) {Q : Int → Hp → Prop} {l1 l2 : Int} {h : Hp} (hw : Lp2 (g_X1_so_L17 x0 Q) l1 l2 h) : Wx G X h0 (QI Q) h 17 [some (rV x0), some (iV l1), some (iV l2)] [] := by
  obtain ⟨n, hw⟩ := hw
  induction n generalizing l1 l2 h with
  | zero => exact hw.elim
  | succ n ih => exact w_X1_so_17 HE hr f0 (fun _ _ _ hk => ih hk) hw
def g_X1_so (x0 : Int) (Q : Int → Hp → Prop) (h : Hp) : Prop :=
  ((0 < (hF h x0 5)) → (Lp2 (g_X1_so_L17 x0 Q) 0 0 h)) ∧ (((hF h x0 5) = 0) → (g_X1_refused x0 1 (fun r9 m9 => Ext h m9 → (Q r9 m9)) h))
theorem w_X1_so_0 {G : GT} {X : ET} {h0 : Hp} {x0 : Int} (HE : XE G X cX1_so 3 RX1 4 86 h0) (hr : XR X (some .int)) (f0 : Lay_X1 h0 x0) {Q : Int → Hp → Prop} {h : Hp} (hw : g_X1_so x0 Q h) : Wx G X h0 (QI Q) h 0 [some (rV x0), none, none] [] := by
  refine Wx.start (fun EB => ?_)
  unfold g_X1_so at hw
  refine x_aload_n HE 0 dX1_so_0 rfl rfl ?_
  refine x_gR HE dX1_so_1 fd_X1_5 q227 (Or.inl rfl) (Lay_X1.tag (f0.ext EB)) rfl ?_
  refine x_ifnonnull HE 13 dX1_so_4 (by decide) (fun c4 => ?_) (fun c4 => ?_)
  · have hw := hw.1 c4
    refine x_iconst HE dX1_so_13 (by decide) ?_
    refine x_istore_n HE 1 (lo' := [some (rV x0), some (iV 0), none]) dX1_so_14 rfl (Nat.le_of_ble_eq_true rfl) rfl ?_
    refine x_iconst HE dX1_so_15 (by decide) ?_
    refine x_istore_n HE 2 (lo' := [some (rV x0), some (iV 0), some (iV 0)]) dX1_so_16 rfl (Nat.le_of_ble_eq_true rfl) rfl ?_
    exact wl_X1_so_17 HE hr f0 hw
  · have hw := hw.2 c4
    refine x_aload_n HE 0 dX1_so_7 rfl rfl ?_
    refine x_iconst HE dX1_so_8 (by decide) ?_
    refine x_callV HE dX1_so_9 rfl (fun l => k_X1_refused (f0.ext EB) l hw) (As := [iV 1]) (rest := []) rfl xc11 (Lay_X1.tag (f0.ext EB)) (lw_V q279 q281 qs0 q123 q282) hy_X1_refused rfl rfl (Nat.le_of_ble_eq_true rfl) (Nat.le_of_ble_eq_true rfl) (Nat.le_of_ble_eq_true rfl) (kkI (fun r9 m9 E9 hw => ?_))
    have hw := hw E9
    exact x_iret HE hr dX1_so_12 hw
theorem k_X1_so {G : GT} {x0 : Int} {Q : Int → Hp → Prop} {h : Hp} (f0 : Lay_X1 h x0) (l : Launch) (hw : g_X1_so x0 Q h) : XM G l yX1_so cX1_so 3 (some .int) 4 86 [rV x0] (QI Q) h :=
  XM.of (by decide) (Nat.le_of_ble_eq_true rfl) (fun X HE hr hn => w_X1_so_0 HE hr f0 hw)
def g_X1_remembers_b21 (x0 : Int) (Q : Hp → Prop) (h : Hp) : Prop :=
  g_J2_add (x0 + 4) (hF h x0 6) (fun r29 m29 => Ext h m29 → ((Lay_X21 m29 (hF m29 x0 6)) ∧ (g_X21_copy (hF m29 x0 6) (fun r38 m38 => Ext m29 m38 → (g_X1_shows x0 r38 (fun m41 => Ext m38 m41 → (Q m41)) m38)) m29))) h
theorem w_X1_remembers_21 {G : GT} {X : ET} {h0 : Hp} {x0 : Int} (HE : XE G X cX1_remembers 1 RX1 7 191 h0) (hr : XR X none) (f0 : Lay_X1 h0 x0) {Q : Hp → Prop} {h : Hp} (hw : g_X1_remembers_b21 x0 Q  h) : Wx G X h0 (QV Q) h 21 [some (rV x0)] [] := by
  refine Wx.start (fun EB => ?_)
  unfold g_X1_remembers_b21 at hw
  refine x_aload_n HE 0 dX1_remembers_21 rfl rfl ?_
  refine x_gR HE dX1_remembers_22 fd_X1_13 q235 (Or.inl rfl) (Lay_X1.tag (f0.ext EB)) (Lay_X1_13 (f0.ext EB)).1 ?_
  refine x_aload_n HE 0 dX1_remembers_25 rfl rfl ?_
  refine x_gR HE dX1_remembers_26 fd_X1_6 q228 (Or.inl rfl) (Lay_X1.tag (f0.ext EB)) rfl ?_
  refine x_callV HE dX1_remembers_29 rfl (fun l => k_J2_add ((Lay_X1_13 (f0.ext EB)).2) l hw) (As := [rV (hF h x0 6)]) (rest := []) rfl xc32 ((Lay_X1_13 (f0.ext EB)).2) (lw_V q1692 q784 q785 q128 q786) hy_J2_add rfl rfl (Nat.le_of_ble_eq_true rfl) (Nat.le_of_ble_eq_true rfl) (Nat.le_of_ble_eq_true rfl) (kkI (fun r29 m29 E29 hw => ?_))
  have hw := hw E29
  refine x_pop HE dX1_remembers_32 (fun o => o) ?_
  refine x_aload_n HE 0 dX1_remembers_33 rfl rfl ?_
  refine x_aload_n HE 0 dX1_remembers_34 rfl rfl ?_
  refine x_gR HE dX1_remembers_35 fd_X1_6 q228 (Or.inl rfl) (Lay_X1.tag (f0.ext (EB.tr E29))) rfl ?_
  obtain ⟨u38_0, hw⟩ := hw
  refine x_callV HE dX1_remembers_38 rfl (fun l => k_X21_copy u38_0 l hw) (As := []) (rest := [rV x0]) rfl xc13 (Lay_X21.tag u38_0) (lw_V q1233 q1234 q1235 q157 q1236) hy_X21_copy rfl rfl (Nat.le_of_ble_eq_true rfl) (Nat.le_of_ble_eq_true rfl) (Nat.le_of_ble_eq_true rfl) (kkR (fun r38 m38 E38 hw => ?_))
  have hw := hw E38
  refine x_callV HE dX1_remembers_41 rfl (fun l => k_X1_shows (f0.ext (EB.tr (E29.tr E38))) l hw) (As := [rV r38]) (rest := []) rfl xc11 (Lay_X1.tag (f0.ext (EB.tr (E29.tr E38)))) (lw_V q1244 q1246 qs25 q123 q1247) hy_X1_shows rfl rfl (Nat.le_of_ble_eq_true rfl) (Nat.le_of_ble_eq_true rfl) (Nat.le_of_ble_eq_true rfl) (kkV (fun m41 E41 hw => ?_))
  have hw := hw E41
  exact x_vret HE hr dX1_remembers_44 hw
def g_X1_remembers (x0 : Int) (Q : Hp → Prop) (h : Hp) : Prop :=
  g_J2_size (x0 + 4) (fun r4 m4 => Ext h m4 → (((r4 ≠ 12) → (g_X1_remembers_b21 x0 Q m4)) ∧ ((r4 = 12) → (g_J2_remove (x0 + 4) 0 (fun r17 m17 => Ext m4 m17 → (g_X1_remembers_b21 x0 Q m17)) m4)))) h
theorem w_X1_remembers_0 {G : GT} {X : ET} {h0 : Hp} {x0 : Int} (HE : XE G X cX1_remembers 1 RX1 7 191 h0) (hr : XR X none) (f0 : Lay_X1 h0 x0) {Q : Hp → Prop} {h : Hp} (hw : g_X1_remembers x0 Q h) : Wx G X h0 (QV Q) h 0 [some (rV x0)] [] := by
  refine Wx.start (fun EB => ?_)
  unfold g_X1_remembers at hw
  refine x_aload_n HE 0 dX1_remembers_0 rfl rfl ?_
  refine x_gR HE dX1_remembers_1 fd_X1_13 q235 (Or.inl rfl) (Lay_X1.tag (f0.ext EB)) (Lay_X1_13 (f0.ext EB)).1 ?_
  refine x_callV HE dX1_remembers_4 rfl (fun l => k_J2_size ((Lay_X1_13 (f0.ext EB)).2) l hw) (As := []) (rest := []) rfl xc32 ((Lay_X1_13 (f0.ext EB)).2) (lw_V q1252 q708 q709 q128 q710) hy_J2_size rfl rfl (Nat.le_of_ble_eq_true rfl) (Nat.le_of_ble_eq_true rfl) (Nat.le_of_ble_eq_true rfl) (kkI (fun r4 m4 E4 hw => ?_))
  have hw := hw E4
  refine x_bipush HE dX1_remembers_7 (by decide) ?_
  refine x_ic_ne HE 21 dX1_remembers_9 (by decide) (fun c9 => ?_) (fun c9 => ?_)
  · have hw := hw.1 c9
    exact w_X1_remembers_21 HE hr f0 hw
  · have hw := hw.2 c9
    refine x_aload_n HE 0 dX1_remembers_12 rfl rfl ?_
    refine x_gR HE dX1_remembers_13 fd_X1_13 q235 (Or.inl rfl) (Lay_X1.tag (f0.ext (EB.tr E4))) (Lay_X1_13 (f0.ext (EB.tr E4))).1 ?_
    refine x_iconst HE dX1_remembers_16 (by decide) ?_
    refine x_callV HE dX1_remembers_17 rfl (fun l => k_J2_remove ((Lay_X1_13 (f0.ext (EB.tr E4))).2) l hw) (As := [iV 0]) (rest := []) rfl xc32 ((Lay_X1_13 (f0.ext (EB.tr E4))).2) (lw_V q1683 q1684 q1685 q128 q1686) hy_J2_remove rfl rfl (Nat.le_of_ble_eq_true rfl) (Nat.le_of_ble_eq_true rfl) (Nat.le_of_ble_eq_true rfl) (kkR (fun r17 m17 E17 hw => ?_))
    have hw := hw E17
    refine x_pop HE dX1_remembers_20 (fun o => o) ?_
    exact w_X1_remembers_21 HE hr f0 hw
theorem k_X1_remembers {G : GT} {x0 : Int} {Q : Hp → Prop} {h : Hp} (f0 : Lay_X1 h x0) (l : Launch) (hw : g_X1_remembers x0 Q h) : XM G l yX1_remembers cX1_remembers 1 none 7 191 [rV x0] (QV Q) h :=
  XM.of (by decide) (Nat.le_of_ble_eq_true rfl) (fun X HE hr hn => w_X1_remembers_0 HE hr f0 hw)
def g_X1_pass_b81 (x0 x1 : Int) (Q : Int → Hp → Prop) (h : Hp) : Prop :=
  (Lay_X21 h (hF h x0 6)) ∧ (g_X1_well x0 (hF h (hF h x0 6) 24) (fun r89 m89 => Ext h m89 → (Q r89 m89)) h)
theorem w_X1_pass_81 {G : GT} {X : ET} {h0 : Hp} {x0 x1 : Int} (HE : XE G X cX1_pass 3 RX1 8 211 h0) (hr : XR X (some .int)) (f0 : Lay_X1 h0 x0) {Q : Int → Hp → Prop} {h : Hp} (hw : g_X1_pass_b81 x0 x1 Q  h) : Wx G X h0 (QI Q) h 81 [some (rV x0), some (iV x1), none] [] := by
  refine Wx.start (fun EB => ?_)
  unfold g_X1_pass_b81 at hw
  refine x_aload_n HE 0 dX1_pass_81 rfl rfl ?_
  refine x_aload_n HE 0 dX1_pass_82 rfl rfl ?_
  refine x_gR HE dX1_pass_83 fd_X1_6 q228 (Or.inl rfl) (Lay_X1.tag (f0.ext EB)) rfl ?_
  obtain ⟨v86, hw⟩ := hw
  refine x_gI HE dX1_pass_86 fd_X21_24 q1172 (Or.inl rfl) (Lay_X21.tag v86) rfl ?_
  refine x_callV HE dX1_pass_89 rfl (fun l => k_X1_well (f0.ext EB) l hw) (As := [iV (hF h (hF h x0 6) 24)]) (rest := []) rfl xc11 (Lay_X1.tag (f0.ext EB)) (lw_V q1253 q1255 qs26 q123 q1256) hy_X1_well rfl rfl (Nat.le_of_ble_eq_true rfl) (Nat.le_of_ble_eq_true rfl) (Nat.le_of_ble_eq_true rfl) (kkI (fun r89 m89 E89 hw => ?_))
  have hw := hw E89
  exact x_iret HE hr dX1_pass_92 hw
def g_X1_pass_L63 (x0 x1 : Int) (Q : Int → Hp → Prop) (K63 : Int → Hp → Prop) (l2 : Int) (h : Hp) : Prop :=
  ((x1 ≤ l2) → (g_X1_pass_b81 x0 x1 Q h)) ∧ ((l2 < x1) → ((Lay_X21 h (hF h x0 6)) ∧ (g_X21_goes (hF h x0 6) (fun m72 => Ext h m72 → ((i32 (l2 + 1)) ∧ (∀ y75 : Int, y75 = l2 + 1 → (K63 y75 m72)))) h)))
theorem w_X1_pass_63 {G : GT} {X : ET} {h0 : Hp} {x0 x1 : Int} (HE : XE G X cX1_pass 3 RX1 8 211 h0) (hr : XR X (some .int)) (f0 : Lay_X1 h0 x0) {Q : Int → Hp → Prop} {K63 : Int → Hp → Prop} (hK63 : ∀ (l2 : Int) (h : Hp), K63 l2 h → Wx G X h0 (QI Q) h 63 [some (rV x0), some (iV x1), some (iV l2)] []) {l2 : Int} {h : Hp} (hw : g_X1_pass_L63 x0 x1 Q K63 l2 h) : Wx G X h0 (QI Q) h 63 [some (rV x0), some (iV x1), some (iV l2)] [] := by
  refine Wx.start (fun EB => ?_)
  unfold g_X1_pass_L63 at hw
  refine x_iload_n HE 2 dX1_pass_63 rfl rfl ?_
  refine x_iload_n HE 1 dX1_pass_64 rfl rfl ?_
  refine x_ic_ge HE 81 dX1_pass_65 (by decide) (fun c65 => ?_) (fun c65 => ?_)
  · have hw := hw.1 c65
    refine Wx.mask [true, true, false] (lo2 := [some (rV x0), some (iV x1), none]) rfl ?_
    exact w_X1_pass_81 HE hr f0 hw
  · have hw := hw.2 c65
    refine x_aload_n HE 0 dX1_pass_68 rfl rfl ?_
    refine x_gR HE dX1_pass_69 fd_X1_6 q228 (Or.inl rfl) (Lay_X1.tag (f0.ext EB)) rfl ?_
    obtain ⟨u72_0, hw⟩ := hw
    refine x_callV HE dX1_pass_72 rfl (fun l => k_X21_goes u72_0 l hw) (As := []) (rest := []) rfl xc13 (Lay_X21.tag u72_0) (lw_V q1693 q1395 q1396 q157 q1397) hy_X21_goes rfl rfl (Nat.le_of_ble_eq_true rfl) (Nat.le_of_ble_eq_true rfl) (Nat.le_of_ble_eq_true rfl) (kkV (fun m72 E72 hw => ?_))
    have hw := hw E72
    obtain ⟨v75, hw⟩ := hw
    refine x_iincN HE (fun y75 => [some (rV x0), some (iV x1), some (iV y75)]) dX1_pass_75 rfl v75 (Nat.le_of_ble_eq_true rfl) (fun _ => rfl) (fun y75 ey75 => ?_)
    have hw := hw y75 ey75
    refine x_goto HE 63 dX1_pass_78 (by decide) ?_
    exact hK63 _ _ hw
theorem wl_X1_pass_63 {G : GT} {X : ET} {h0 : Hp} {x0 x1 : Int} (HE : XE G X cX1_pass 3 RX1 8 211 h0) (hr : XR X (some .int)) (f0 : Lay_X1 h0 x0) {Q : Int → Hp → Prop} {l2 : Int} {h : Hp} (hw : Lp1 (g_X1_pass_L63 x0 x1 Q) l2 h) : Wx G X h0 (QI Q) h 63 [some (rV x0), some (iV x1), some (iV l2)] [] := by
  obtain ⟨n, hw⟩ := hw
  induction n generalizing l2 h with
  | zero => exact hw.elim
  | succ n ih => exact w_X1_pass_63 HE hr f0 (fun _ _ hk => ih hk) hw
def g_X1_pass (x0 x1 : Int) (Q : Int → Hp → Prop) (h : Hp) : Prop :=
  ((0 < (hF h x0 5)) → (g_X1_in x1 1 200 (fun r18 m18 => Ext h m18 → (((r18 ≠ 0) → ((Lay_X21 m18 (hF m18 x0 6)) ∧ ((i32 ((hF m18 (hF m18 x0 6) 24) + x1)) ∧ ((Lay_X7 m18 (hF m18 x0 5)) ∧ ((i32 ((hF m18 (hF m18 x0 5) 1) + 1)) ∧ (((((hF m18 (hF m18 x0 6) 24) + x1) ≤ ((hF m18 (hF m18 x0 5) 1) + 1)) → (g_X1_remembers x0 (fun m58 => Ext m18 m58 → (Lp1 (g_X1_pass_L63 x0 x1 Q) 0 m58)) m18)) ∧ ((((hF m18 (hF m18 x0 5) 1) + 1) < ((hF m18 (hF m18 x0 6) 24) + x1)) → (g_X1_refused x0 3 (fun r53 m53 => Ext m18 m53 → (Q r53 m53)) m18)))))))) ∧ ((r18 = 0) → (g_X1_refused x0 2 (fun r26 m26 => Ext m18 m26 → (Q r26 m26)) m18)))) h)) ∧ (((hF h x0 5) = 0) → (g_X1_refused x0 1 (fun r9 m9 => Ext h m9 → (Q r9 m9)) h))
theorem w_X1_pass_0 {G : GT} {X : ET} {h0 : Hp} {x0 x1 : Int} (HE : XE G X cX1_pass 3 RX1 8 211 h0) (hr : XR X (some .int)) (f0 : Lay_X1 h0 x0) {Q : Int → Hp → Prop} {h : Hp} (hw : g_X1_pass x0 x1 Q h) : Wx G X h0 (QI Q) h 0 [some (rV x0), some (iV x1), none] [] := by
  refine Wx.start (fun EB => ?_)
  unfold g_X1_pass at hw
  refine x_aload_n HE 0 dX1_pass_0 rfl rfl ?_
  refine x_gR HE dX1_pass_1 fd_X1_5 q227 (Or.inl rfl) (Lay_X1.tag (f0.ext EB)) rfl ?_
  refine x_ifnonnull HE 13 dX1_pass_4 (by decide) (fun c4 => ?_) (fun c4 => ?_)
  · have hw := hw.1 c4
    refine x_iload_n HE 1 dX1_pass_13 rfl rfl ?_
    refine x_iconst HE dX1_pass_14 (by decide) ?_
    refine x_sipush HE dX1_pass_15 (by decide) ?_
    refine x_callS HE dX1_pass_18 rfl (fun l => k_X1_in  l hw) (As := [iV x1, iV 1, iV 200]) (rest := []) rfl (lw_S q276 q277 q123 q278) hy_X1_in.2 rfl rfl (Nat.le_of_ble_eq_true rfl) (Nat.le_of_ble_eq_true rfl) (Nat.le_of_ble_eq_true rfl) (kkI (fun r18 m18 E18 hw => ?_))
    have hw := hw E18
    refine x_if_ne HE 30 dX1_pass_21 (by decide) (fun c21 => ?_) (fun c21 => ?_)
    · have hw := hw.1 c21
      refine x_aload_n HE 0 dX1_pass_30 rfl rfl ?_
      refine x_gR HE dX1_pass_31 fd_X1_6 q228 (Or.inl rfl) (Lay_X1.tag (f0.ext (EB.tr E18))) rfl ?_
      obtain ⟨v34, hw⟩ := hw
      refine x_gI HE dX1_pass_34 fd_X21_24 q1172 (Or.inl rfl) (Lay_X21.tag v34) rfl ?_
      refine x_iload_n HE 1 dX1_pass_37 rfl rfl ?_
      obtain ⟨v38, hw⟩ := hw
      refine x_iadd HE dX1_pass_38 v38 ?_
      refine x_aload_n HE 0 dX1_pass_39 rfl rfl ?_
      refine x_gR HE dX1_pass_40 fd_X1_5 q227 (Or.inl rfl) (Lay_X1.tag (f0.ext (EB.tr E18))) rfl ?_
      obtain ⟨v43, hw⟩ := hw
      refine x_gI HE dX1_pass_43 fd_X7_1 q317 (Or.inl rfl) (Lay_X7.tag v43) rfl ?_
      refine x_iconst HE dX1_pass_46 (by decide) ?_
      obtain ⟨v47, hw⟩ := hw
      refine x_iadd HE dX1_pass_47 v47 ?_
      refine x_ic_le HE 57 dX1_pass_48 (by decide) (fun c48 => ?_) (fun c48 => ?_)
      · have hw := hw.1 c48
        refine x_aload_n HE 0 dX1_pass_57 rfl rfl ?_
        refine x_callV HE dX1_pass_58 rfl (fun l => k_X1_remembers (f0.ext (EB.tr E18)) l hw) (As := []) (rest := []) rfl xc11 (Lay_X1.tag (f0.ext (EB.tr E18))) (lw_V q1679 q1681 qs50 q123 q1682) hy_X1_remembers rfl rfl (Nat.le_of_ble_eq_true rfl) (Nat.le_of_ble_eq_true rfl) (Nat.le_of_ble_eq_true rfl) (kkV (fun m58 E58 hw => ?_))
        have hw := hw E58
        refine x_iconst HE dX1_pass_61 (by decide) ?_
        refine x_istore_n HE 2 (lo' := [some (rV x0), some (iV x1), some (iV 0)]) dX1_pass_62 rfl (Nat.le_of_ble_eq_true rfl) rfl ?_
        exact wl_X1_pass_63 HE hr f0 hw
      · have hw := hw.2 c48
        refine x_aload_n HE 0 dX1_pass_51 rfl rfl ?_
        refine x_iconst HE dX1_pass_52 (by decide) ?_
        refine x_callV HE dX1_pass_53 rfl (fun l => k_X1_refused (f0.ext (EB.tr E18)) l hw) (As := [iV 3]) (rest := []) rfl xc11 (Lay_X1.tag (f0.ext (EB.tr E18))) (lw_V q279 q281 qs0 q123 q282) hy_X1_refused rfl rfl (Nat.le_of_ble_eq_true rfl) (Nat.le_of_ble_eq_true rfl) (Nat.le_of_ble_eq_true rfl) (kkI (fun r53 m53 E53 hw => ?_))
        have hw := hw E53
        exact x_iret HE hr dX1_pass_56 hw
    · have hw := hw.2 c21
      refine x_aload_n HE 0 dX1_pass_24 rfl rfl ?_
      refine x_iconst HE dX1_pass_25 (by decide) ?_
      refine x_callV HE dX1_pass_26 rfl (fun l => k_X1_refused (f0.ext (EB.tr E18)) l hw) (As := [iV 2]) (rest := []) rfl xc11 (Lay_X1.tag (f0.ext (EB.tr E18))) (lw_V q279 q281 qs0 q123 q282) hy_X1_refused rfl rfl (Nat.le_of_ble_eq_true rfl) (Nat.le_of_ble_eq_true rfl) (Nat.le_of_ble_eq_true rfl) (kkI (fun r26 m26 E26 hw => ?_))
      have hw := hw E26
      exact x_iret HE hr dX1_pass_29 hw
  · have hw := hw.2 c4
    refine x_aload_n HE 0 dX1_pass_7 rfl rfl ?_
    refine x_iconst HE dX1_pass_8 (by decide) ?_
    refine x_callV HE dX1_pass_9 rfl (fun l => k_X1_refused (f0.ext EB) l hw) (As := [iV 1]) (rest := []) rfl xc11 (Lay_X1.tag (f0.ext EB)) (lw_V q279 q281 qs0 q123 q282) hy_X1_refused rfl rfl (Nat.le_of_ble_eq_true rfl) (Nat.le_of_ble_eq_true rfl) (Nat.le_of_ble_eq_true rfl) (kkI (fun r9 m9 E9 hw => ?_))
    have hw := hw E9
    exact x_iret HE hr dX1_pass_12 hw
theorem k_X1_pass {G : GT} {x0 x1 : Int} {Q : Int → Hp → Prop} {h : Hp} (f0 : Lay_X1 h x0) (l : Launch) (hw : g_X1_pass x0 x1 Q h) : XM G l yX1_pass cX1_pass 3 (some .int) 8 211 [rV x0, iV x1] (QI Q) h :=
  XM.of (by decide) (Nat.le_of_ble_eq_true rfl) (fun X HE hr hn => w_X1_pass_0 HE hr f0 hw)
def g_X1_denied (x0 x1 : Int) (Q : Int → Hp → Prop) (h : Hp) : Prop :=
  g_X1_refused x0 x1 (fun r2 m2 => Ext h m2 → (Q 0 m2)) h
theorem w_X1_denied_0 {G : GT} {X : ET} {h0 : Hp} {x0 x1 : Int} (HE : XE G X cX1_denied 2 RX1 1 21 h0) (hr : XR X (some .boolean)) (f0 : Lay_X1 h0 x0) {Q : Int → Hp → Prop} {h : Hp} (hw : g_X1_denied x0 x1 Q h) : Wx G X h0 (QI Q) h 0 [some (rV x0), some (iV x1)] [] := by
  refine Wx.start (fun EB => ?_)
  unfold g_X1_denied at hw
  refine x_aload_n HE 0 dX1_denied_0 rfl rfl ?_
  refine x_iload_n HE 1 dX1_denied_1 rfl rfl ?_
  refine x_callV HE dX1_denied_2 rfl (fun l => k_X1_refused (f0.ext EB) l hw) (As := [iV x1]) (rest := []) rfl xc11 (Lay_X1.tag (f0.ext EB)) (lw_V q279 q281 qs0 q123 q282) hy_X1_refused rfl rfl (Nat.le_of_ble_eq_true rfl) (Nat.le_of_ble_eq_true rfl) (Nat.le_of_ble_eq_true rfl) (kkI (fun r2 m2 E2 hw => ?_))
  have hw := hw E2
  refine x_pop HE dX1_denied_5 (fun o => o) ?_
  refine x_iconst HE dX1_denied_6 (by decide) ?_
  exact x_zret HE hr dX1_denied_7 (by decide) hw
theorem k_X1_denied {G : GT} {x0 x1 : Int} {Q : Int → Hp → Prop} {h : Hp} (f0 : Lay_X1 h x0) (l : Launch) (hw : g_X1_denied x0 x1 Q h) : XM G l yX1_denied cX1_denied 2 (some .boolean) 1 21 [rV x0, iV x1] (QI Q) h :=
  XM.of (by decide) (Nat.le_of_ble_eq_true rfl) (fun X HE hr hn => w_X1_denied_0 HE hr f0 hw)
def g_X1_granted (x0 : Int) (Q : Int → Hp → Prop) (h : Hp) : Prop :=
  g_X1_well x0 0 (fun r2 m2 => Ext h m2 → (Q 1 m2)) h
theorem w_X1_granted_0 {G : GT} {X : ET} {h0 : Hp} {x0 : Int} (HE : XE G X cX1_granted 1 RX1 1 21 h0) (hr : XR X (some .boolean)) (f0 : Lay_X1 h0 x0) {Q : Int → Hp → Prop} {h : Hp} (hw : g_X1_granted x0 Q h) : Wx G X h0 (QI Q) h 0 [some (rV x0)] [] := by
  refine Wx.start (fun EB => ?_)
  unfold g_X1_granted at hw
  refine x_aload_n HE 0 dX1_granted_0 rfl rfl ?_
  refine x_iconst HE dX1_granted_1 (by decide) ?_
  refine x_callV HE dX1_granted_2 rfl (fun l => k_X1_well (f0.ext EB) l hw) (As := [iV 0]) (rest := []) rfl xc11 (Lay_X1.tag (f0.ext EB)) (lw_V q1253 q1255 qs26 q123 q1256) hy_X1_well rfl rfl (Nat.le_of_ble_eq_true rfl) (Nat.le_of_ble_eq_true rfl) (Nat.le_of_ble_eq_true rfl) (kkI (fun r2 m2 E2 hw => ?_))
  have hw := hw E2
  refine x_pop HE dX1_granted_5 (fun o => o) ?_
  refine x_iconst HE dX1_granted_6 (by decide) ?_
  exact x_zret HE hr dX1_granted_7 (by decide) hw
theorem k_X1_granted {G : GT} {x0 : Int} {Q : Int → Hp → Prop} {h : Hp} (f0 : Lay_X1 h x0) (l : Launch) (hw : g_X1_granted x0 Q h) : XM G l yX1_granted cX1_granted 1 (some .boolean) 1 21 [rV x0] (QI Q) h :=
  XM.of (by decide) (Nat.le_of_ble_eq_true rfl) (fun X HE hr hn => w_X1_granted_0 HE hr f0 hw)
def g_X1_moves_b43 (x0 x1 x2 : Int) (Q : Int → Hp → Prop) (h : Hp) : Prop :=
  g_X1_denied x0 5 (fun r45 m45 => Ext h m45 → ((r45 = 0 ∨ r45 = 1) ∧ Q r45 m45)) h
theorem w_X1_moves_43 {G : GT} {X : ET} {h0 : Hp} {x0 x1 x2 : Int} (HE : XE G X cX1_moves 3 RX1 8 211 h0) (hr : XR X (some .boolean)) (f0 : Lay_X1 h0 x0) {Q : Int → Hp → Prop} {h : Hp} (hw : g_X1_moves_b43 x0 x1 x2 Q  h) : Wx G X h0 (QI Q) h 43 [some (rV x0), some (iV x1), some (iV x2)] [] := by
  refine Wx.start (fun EB => ?_)
  unfold g_X1_moves_b43 at hw
  refine x_aload_n HE 0 dX1_moves_43 rfl rfl ?_
  refine x_iconst HE dX1_moves_44 (by decide) ?_
  refine x_callV HE dX1_moves_45 rfl (fun l => k_X1_denied (f0.ext EB) l hw) (As := [iV 5]) (rest := []) rfl xc11 (Lay_X1.tag (f0.ext EB)) (lw_V q1698 q1700 qs52 q123 q1701) hy_X1_denied rfl rfl (Nat.le_of_ble_eq_true rfl) (Nat.le_of_ble_eq_true rfl) (Nat.le_of_ble_eq_true rfl) (kkI (fun r45 m45 E45 hw => ?_))
  have hw := hw E45
  exact x_zret HE hr dX1_moves_48 hw.1 hw.2
def g_X1_moves_b16 (x0 x1 x2 : Int) (Q : Int → Hp → Prop) (h : Hp) : Prop :=
  g_X1_denied x0 1 (fun r18 m18 => Ext h m18 → ((r18 = 0 ∨ r18 = 1) ∧ Q r18 m18)) h
theorem w_X1_moves_16 {G : GT} {X : ET} {h0 : Hp} {x0 x1 x2 : Int} (HE : XE G X cX1_moves 3 RX1 8 211 h0) (hr : XR X (some .boolean)) (f0 : Lay_X1 h0 x0) {Q : Int → Hp → Prop} {h : Hp} (hw : g_X1_moves_b16 x0 x1 x2 Q  h) : Wx G X h0 (QI Q) h 16 [some (rV x0), some (iV x1), some (iV x2)] [] := by
  refine Wx.start (fun EB => ?_)
  unfold g_X1_moves_b16 at hw
  refine x_aload_n HE 0 dX1_moves_16 rfl rfl ?_
  refine x_iconst HE dX1_moves_17 (by decide) ?_
  refine x_callV HE dX1_moves_18 rfl (fun l => k_X1_denied (f0.ext EB) l hw) (As := [iV 1]) (rest := []) rfl xc11 (Lay_X1.tag (f0.ext EB)) (lw_V q1698 q1700 qs52 q123 q1701) hy_X1_denied rfl rfl (Nat.le_of_ble_eq_true rfl) (Nat.le_of_ble_eq_true rfl) (Nat.le_of_ble_eq_true rfl) (kkI (fun r18 m18 E18 hw => ?_))
  have hw := hw E18
  exact x_zret HE hr dX1_moves_21 hw.1 hw.2
def g_X1_moves (x0 x1 x2 : Int) (Q : Int → Hp → Prop) (h : Hp) : Prop :=
  g_X1_isPerson x0 x1 (fun r2 m2 => Ext h m2 → (((r2 = 0) → (g_X1_moves_b16 x0 x1 x2 Q m2)) ∧ ((r2 ≠ 0) → (g_X1_isPlace x0 x2 (fun r10 m10 => Ext m2 m10 → (((r10 ≠ 0) → (g_X1_isWaiting x0 x1 (fun r24 m24 => Ext m10 m24 → (((r24 = 0) → (g_X1_moves_b43 x0 x1 x2 Q m24)) ∧ ((r24 ≠ 0) → ((Lay_X21 m24 (hF m24 x0 6)) ∧ (((0 : Int) ≤ x1 ∧ x1 < 10) ∧ ((((hA m24 ((hF m24 x0 6) + 2) x1) ≠ x2) → (g_X1_remembers x0 (fun m50 => Ext m24 m50 → ((Lay_X21 m50 (hF m50 x0 6)) ∧ (((0 : Int) ≤ x1 ∧ x1 < 10) ∧ (∀ m62 : Hp, m62 = setA m50 ((hF m50 x0 6) + 2) x1 x2 → (g_X1_granted x0 (fun r64 m64 => Ext m62 m64 → ((r64 = 0 ∨ r64 = 1) ∧ Q r64 m64)) m62))))) m24)) ∧ (((hA m24 ((hF m24 x0 6) + 2) x1) = x2) → (g_X1_moves_b43 x0 x1 x2 Q m24)))))))) m10)) ∧ ((r10 = 0) → (g_X1_moves_b16 x0 x1 x2 Q m10)))) m2)))) h
theorem w_X1_moves_0 {G : GT} {X : ET} {h0 : Hp} {x0 x1 x2 : Int} (HE : XE G X cX1_moves 3 RX1 8 211 h0) (hr : XR X (some .boolean)) (f0 : Lay_X1 h0 x0) {Q : Int → Hp → Prop} {h : Hp} (hw : g_X1_moves x0 x1 x2 Q h) : Wx G X h0 (QI Q) h 0 [some (rV x0), some (iV x1), some (iV x2)] [] := by
  refine Wx.start (fun EB => ?_)
  unfold g_X1_moves at hw
  refine x_aload_n HE 0 dX1_moves_0 rfl rfl ?_
  refine x_iload_n HE 1 dX1_moves_1 rfl rfl ?_
  refine x_callV HE dX1_moves_2 rfl (fun l => k_X1_isPerson (f0.ext EB) l hw) (As := [iV x1]) (rest := []) rfl xc11 (Lay_X1.tag (f0.ext EB)) (lw_V q1269 q1271 qs27 q123 q1272) hy_X1_isPerson rfl rfl (Nat.le_of_ble_eq_true rfl) (Nat.le_of_ble_eq_true rfl) (Nat.le_of_ble_eq_true rfl) (kkI (fun r2 m2 E2 hw => ?_))
  have hw := hw E2
  refine x_if_eq HE 16 dX1_moves_5 (by decide) (fun c5 => ?_) (fun c5 => ?_)
  · have hw := hw.1 c5
    exact w_X1_moves_16 HE hr f0 hw
  · have hw := hw.2 c5
    refine x_aload_n HE 0 dX1_moves_8 rfl rfl ?_
    refine x_iload_n HE 2 dX1_moves_9 rfl rfl ?_
    refine x_callV HE dX1_moves_10 rfl (fun l => k_X1_isPlace (f0.ext (EB.tr E2)) l hw) (As := [iV x2]) (rest := []) rfl xc11 (Lay_X1.tag (f0.ext (EB.tr E2))) (lw_V q1299 q1301 qs29 q123 q1302) hy_X1_isPlace rfl rfl (Nat.le_of_ble_eq_true rfl) (Nat.le_of_ble_eq_true rfl) (Nat.le_of_ble_eq_true rfl) (kkI (fun r10 m10 E10 hw => ?_))
    have hw := hw E10
    refine x_if_ne HE 22 dX1_moves_13 (by decide) (fun c13 => ?_) (fun c13 => ?_)
    · have hw := hw.1 c13
      refine x_aload_n HE 0 dX1_moves_22 rfl rfl ?_
      refine x_iload_n HE 1 dX1_moves_23 rfl rfl ?_
      refine x_callV HE dX1_moves_24 rfl (fun l => k_X1_isWaiting (f0.ext (EB.tr (E2.tr E10))) l hw) (As := [iV x1]) (rest := []) rfl xc11 (Lay_X1.tag (f0.ext (EB.tr (E2.tr E10)))) (lw_V q1545 q1547 qs44 q123 q1548) hy_X1_isWaiting rfl rfl (Nat.le_of_ble_eq_true rfl) (Nat.le_of_ble_eq_true rfl) (Nat.le_of_ble_eq_true rfl) (kkI (fun r24 m24 E24 hw => ?_))
      have hw := hw E24
      refine x_if_eq HE 43 dX1_moves_27 (by decide) (fun c27 => ?_) (fun c27 => ?_)
      · have hw := hw.1 c27
        exact w_X1_moves_43 HE hr f0 hw
      · have hw := hw.2 c27
        refine x_aload_n HE 0 dX1_moves_30 rfl rfl ?_
        refine x_gR HE dX1_moves_31 fd_X1_6 q228 (Or.inl rfl) (Lay_X1.tag (f0.ext (EB.tr (E2.tr (E10.tr E24))))) rfl ?_
        obtain ⟨v34, hw⟩ := hw
        refine x_gR HE dX1_moves_34 fd_X21_3 q1129 (Or.inl rfl) (Lay_X21.tag v34) (Lay_X21_3 v34).1 ?_
        refine x_iload_n HE 1 dX1_moves_37 rfl rfl ?_
        obtain ⟨i38, hw⟩ := hw
        refine x_iald HE dX1_moves_38 (t := 1) (by decide) ((Lay_X21_3 v34).2.1) (ix_of ((Lay_X21_3 v34).2.2) i38) rfl ?_
        refine x_iload_n HE 2 dX1_moves_39 rfl rfl ?_
        refine x_ic_ne HE 49 dX1_moves_40 (by decide) (fun c40 => ?_) (fun c40 => ?_)
        · have hw := hw.1 c40
          refine x_aload_n HE 0 dX1_moves_49 rfl rfl ?_
          refine x_callV HE dX1_moves_50 rfl (fun l => k_X1_remembers (f0.ext (EB.tr (E2.tr (E10.tr E24)))) l hw) (As := []) (rest := []) rfl xc11 (Lay_X1.tag (f0.ext (EB.tr (E2.tr (E10.tr E24))))) (lw_V q1679 q1681 qs50 q123 q1682) hy_X1_remembers rfl rfl (Nat.le_of_ble_eq_true rfl) (Nat.le_of_ble_eq_true rfl) (Nat.le_of_ble_eq_true rfl) (kkV (fun m50 E50 hw => ?_))
          have hw := hw E50
          refine x_aload_n HE 0 dX1_moves_53 rfl rfl ?_
          refine x_gR HE dX1_moves_54 fd_X1_6 q228 (Or.inl rfl) (Lay_X1.tag (f0.ext (EB.tr (E2.tr (E10.tr (E24.tr E50)))))) rfl ?_
          obtain ⟨v57, hw⟩ := hw
          refine x_gR HE dX1_moves_57 fd_X21_3 q1129 (Or.inl rfl) (Lay_X21.tag v57) (Lay_X21_3 v57).1 ?_
          refine x_iload_n HE 1 dX1_moves_60 rfl rfl ?_
          refine x_iload_n HE 2 dX1_moves_61 rfl rfl ?_
          obtain ⟨i62, hw⟩ := hw
          refine x_iast HE dX1_moves_62 ((Lay_X21_3 v57).2.1) (ix_of ((Lay_X21_3 v57).2.2) i62) (fun m62 em62 E62 => ?_)
          have hw := hw m62 em62
          refine x_aload_n HE 0 dX1_moves_63 rfl rfl ?_
          refine x_callV HE dX1_moves_64 rfl (fun l => k_X1_granted (f0.ext (EB.tr (E2.tr (E10.tr (E24.tr (E50.tr E62)))))) l hw) (As := []) (rest := []) rfl xc11 (Lay_X1.tag (f0.ext (EB.tr (E2.tr (E10.tr (E24.tr (E50.tr E62))))))) (lw_V q1702 q1704 qs53 q123 q1705) hy_X1_granted rfl rfl (Nat.le_of_ble_eq_true rfl) (Nat.le_of_ble_eq_true rfl) (Nat.le_of_ble_eq_true rfl) (kkI (fun r64 m64 E64 hw => ?_))
          have hw := hw E64
          exact x_zret HE hr dX1_moves_67 hw.1 hw.2
        · have hw := hw.2 c40
          exact w_X1_moves_43 HE hr f0 hw
    · have hw := hw.2 c13
      exact w_X1_moves_16 HE hr f0 hw
theorem k_X1_moves {G : GT} {x0 x1 x2 : Int} {Q : Int → Hp → Prop} {h : Hp} (f0 : Lay_X1 h x0) (l : Launch) (hw : g_X1_moves x0 x1 x2 Q h) : XM G l yX1_moves cX1_moves 3 (some .boolean) 8 211 [rV x0, iV x1, iV x2] (QI Q) h :=
  XM.of (by decide) (Nat.le_of_ble_eq_true rfl) (fun X HE hr hn => w_X1_moves_0 HE hr f0 hw)
def g_X1_lets_b21 (x0 x1 x2 : Int) (Q : Int → Hp → Prop) (h : Hp) : Prop :=
  g_X1_denied x0 1 (fun r23 m23 => Ext h m23 → ((r23 = 0 ∨ r23 = 1) ∧ Q r23 m23)) h
theorem w_X1_lets_21 {G : GT} {X : ET} {h0 : Hp} {x0 x1 x2 : Int} (HE : XE G X cX1_lets 3 RX1 8 211 h0) (hr : XR X (some .boolean)) (f0 : Lay_X1 h0 x0) {Q : Int → Hp → Prop} {h : Hp} (hw : g_X1_lets_b21 x0 x1 x2 Q  h) : Wx G X h0 (QI Q) h 21 [some (rV x0), some (iV x1), some (iV x2)] [] := by
  refine Wx.start (fun EB => ?_)
  unfold g_X1_lets_b21 at hw
  refine x_aload_n HE 0 dX1_lets_21 rfl rfl ?_
  refine x_iconst HE dX1_lets_22 (by decide) ?_
  refine x_callV HE dX1_lets_23 rfl (fun l => k_X1_denied (f0.ext EB) l hw) (As := [iV 1]) (rest := []) rfl xc11 (Lay_X1.tag (f0.ext EB)) (lw_V q1698 q1700 qs52 q123 q1701) hy_X1_denied rfl rfl (Nat.le_of_ble_eq_true rfl) (Nat.le_of_ble_eq_true rfl) (Nat.le_of_ble_eq_true rfl) (kkI (fun r23 m23 E23 hw => ?_))
  have hw := hw E23
  exact x_zret HE hr dX1_lets_26 hw.1 hw.2
def g_X1_lets (x0 x1 x2 : Int) (Q : Int → Hp → Prop) (h : Hp) : Prop :=
  g_X1_isPerson x0 x1 (fun r2 m2 => Ext h m2 → (((r2 = 0) → (g_X1_lets_b21 x0 x1 x2 Q m2)) ∧ ((r2 ≠ 0) → (g_X1_isPerson x0 x2 (fun r10 m10 => Ext m2 m10 → (((r10 = 0) → (g_X1_lets_b21 x0 x1 x2 Q m10)) ∧ ((r10 ≠ 0) → (((x1 ≠ x2) → (g_X1_canLet x0 x1 x2 (fun r30 m30 => Ext m10 m30 → (((r30 ≠ 0) → (g_X1_remembers x0 (fun m43 => Ext m30 m43 → ((Lay_X21 m43 (hF m43 x0 6)) ∧ (((0 : Int) ≤ x2 ∧ x2 < 10) ∧ ((i32 ((hA m43 ((hF m43 x0 6) + 4) x2) + 1)) ∧ (((0 : Int) ≤ x1 ∧ x1 < 10) ∧ (∀ m65 : Hp, m65 = setA m43 ((hF m43 x0 6) + 4) x1 ((hA m43 ((hF m43 x0 6) + 4) x2) + 1) → (g_X1_granted x0 (fun r67 m67 => Ext m65 m67 → ((r67 = 0 ∨ r67 = 1) ∧ Q r67 m67)) m65))))))) m30)) ∧ ((r30 = 0) → (g_X1_denied x0 5 (fun r38 m38 => Ext m30 m38 → ((r38 = 0 ∨ r38 = 1) ∧ Q r38 m38)) m30)))) m10)) ∧ ((x1 = x2) → (g_X1_lets_b21 x0 x1 x2 Q m10)))))) m2)))) h
theorem w_X1_lets_0 {G : GT} {X : ET} {h0 : Hp} {x0 x1 x2 : Int} (HE : XE G X cX1_lets 3 RX1 8 211 h0) (hr : XR X (some .boolean)) (f0 : Lay_X1 h0 x0) {Q : Int → Hp → Prop} {h : Hp} (hw : g_X1_lets x0 x1 x2 Q h) : Wx G X h0 (QI Q) h 0 [some (rV x0), some (iV x1), some (iV x2)] [] := by
  refine Wx.start (fun EB => ?_)
  unfold g_X1_lets at hw
  refine x_aload_n HE 0 dX1_lets_0 rfl rfl ?_
  refine x_iload_n HE 1 dX1_lets_1 rfl rfl ?_
  refine x_callV HE dX1_lets_2 rfl (fun l => k_X1_isPerson (f0.ext EB) l hw) (As := [iV x1]) (rest := []) rfl xc11 (Lay_X1.tag (f0.ext EB)) (lw_V q1269 q1271 qs27 q123 q1272) hy_X1_isPerson rfl rfl (Nat.le_of_ble_eq_true rfl) (Nat.le_of_ble_eq_true rfl) (Nat.le_of_ble_eq_true rfl) (kkI (fun r2 m2 E2 hw => ?_))
  have hw := hw E2
  refine x_if_eq HE 21 dX1_lets_5 (by decide) (fun c5 => ?_) (fun c5 => ?_)
  · have hw := hw.1 c5
    exact w_X1_lets_21 HE hr f0 hw
  · have hw := hw.2 c5
    refine x_aload_n HE 0 dX1_lets_8 rfl rfl ?_
    refine x_iload_n HE 2 dX1_lets_9 rfl rfl ?_
    refine x_callV HE dX1_lets_10 rfl (fun l => k_X1_isPerson (f0.ext (EB.tr E2)) l hw) (As := [iV x2]) (rest := []) rfl xc11 (Lay_X1.tag (f0.ext (EB.tr E2))) (lw_V q1269 q1271 qs27 q123 q1272) hy_X1_isPerson rfl rfl (Nat.le_of_ble_eq_true rfl) (Nat.le_of_ble_eq_true rfl) (Nat.le_of_ble_eq_true rfl) (kkI (fun r10 m10 E10 hw => ?_))
    have hw := hw E10
    refine x_if_eq HE 21 dX1_lets_13 (by decide) (fun c13 => ?_) (fun c13 => ?_)
    · have hw := hw.1 c13
      exact w_X1_lets_21 HE hr f0 hw
    · have hw := hw.2 c13
      refine x_iload_n HE 1 dX1_lets_16 rfl rfl ?_
      refine x_iload_n HE 2 dX1_lets_17 rfl rfl ?_
      refine x_ic_ne HE 27 dX1_lets_18 (by decide) (fun c18 => ?_) (fun c18 => ?_)
      · have hw := hw.1 c18
        refine x_aload_n HE 0 dX1_lets_27 rfl rfl ?_
        refine x_iload_n HE 1 dX1_lets_28 rfl rfl ?_
        refine x_iload_n HE 2 dX1_lets_29 rfl rfl ?_
        refine x_callV HE dX1_lets_30 rfl (fun l => k_X1_canLet (f0.ext (EB.tr (E2.tr E10))) l hw) (As := [iV x1, iV x2]) (rest := []) rfl xc11 (Lay_X1.tag (f0.ext (EB.tr (E2.tr E10)))) (lw_V q1541 q1543 qs43 q123 q1544) hy_X1_canLet rfl rfl (Nat.le_of_ble_eq_true rfl) (Nat.le_of_ble_eq_true rfl) (Nat.le_of_ble_eq_true rfl) (kkI (fun r30 m30 E30 hw => ?_))
        have hw := hw E30
        refine x_if_ne HE 42 dX1_lets_33 (by decide) (fun c33 => ?_) (fun c33 => ?_)
        · have hw := hw.1 c33
          refine x_aload_n HE 0 dX1_lets_42 rfl rfl ?_
          refine x_callV HE dX1_lets_43 rfl (fun l => k_X1_remembers (f0.ext (EB.tr (E2.tr (E10.tr E30)))) l hw) (As := []) (rest := []) rfl xc11 (Lay_X1.tag (f0.ext (EB.tr (E2.tr (E10.tr E30))))) (lw_V q1679 q1681 qs50 q123 q1682) hy_X1_remembers rfl rfl (Nat.le_of_ble_eq_true rfl) (Nat.le_of_ble_eq_true rfl) (Nat.le_of_ble_eq_true rfl) (kkV (fun m43 E43 hw => ?_))
          have hw := hw E43
          refine x_aload_n HE 0 dX1_lets_46 rfl rfl ?_
          refine x_gR HE dX1_lets_47 fd_X1_6 q228 (Or.inl rfl) (Lay_X1.tag (f0.ext (EB.tr (E2.tr (E10.tr (E30.tr E43)))))) rfl ?_
          obtain ⟨v50, hw⟩ := hw
          refine x_gR HE dX1_lets_50 fd_X21_5 q1135 (Or.inl rfl) (Lay_X21.tag v50) (Lay_X21_5 v50).1 ?_
          refine x_iload_n HE 1 dX1_lets_53 rfl rfl ?_
          refine x_aload_n HE 0 dX1_lets_54 rfl rfl ?_
          refine x_gR HE dX1_lets_55 fd_X1_6 q228 (Or.inl rfl) (Lay_X1.tag (f0.ext (EB.tr (E2.tr (E10.tr (E30.tr E43)))))) rfl ?_
          refine x_gR HE dX1_lets_58 fd_X21_5 q1135 (Or.inl rfl) (Lay_X21.tag v50) (Lay_X21_5 v50).1 ?_
          refine x_iload_n HE 2 dX1_lets_61 rfl rfl ?_
          obtain ⟨i62, hw⟩ := hw
          refine x_iald HE dX1_lets_62 (t := 1) (by decide) ((Lay_X21_5 v50).2.1) (ix_of ((Lay_X21_5 v50).2.2) i62) rfl ?_
          refine x_iconst HE dX1_lets_63 (by decide) ?_
          obtain ⟨v64, hw⟩ := hw
          refine x_iadd HE dX1_lets_64 v64 ?_
          obtain ⟨i65, hw⟩ := hw
          refine x_iast HE dX1_lets_65 ((Lay_X21_5 v50).2.1) (ix_of ((Lay_X21_5 v50).2.2) i65) (fun m65 em65 E65 => ?_)
          have hw := hw m65 em65
          refine x_aload_n HE 0 dX1_lets_66 rfl rfl ?_
          refine x_callV HE dX1_lets_67 rfl (fun l => k_X1_granted (f0.ext (EB.tr (E2.tr (E10.tr (E30.tr (E43.tr E65)))))) l hw) (As := []) (rest := []) rfl xc11 (Lay_X1.tag (f0.ext (EB.tr (E2.tr (E10.tr (E30.tr (E43.tr E65))))))) (lw_V q1702 q1704 qs53 q123 q1705) hy_X1_granted rfl rfl (Nat.le_of_ble_eq_true rfl) (Nat.le_of_ble_eq_true rfl) (Nat.le_of_ble_eq_true rfl) (kkI (fun r67 m67 E67 hw => ?_))
          have hw := hw E67
          exact x_zret HE hr dX1_lets_70 hw.1 hw.2
        · have hw := hw.2 c33
          refine x_aload_n HE 0 dX1_lets_36 rfl rfl ?_
          refine x_iconst HE dX1_lets_37 (by decide) ?_
          refine x_callV HE dX1_lets_38 rfl (fun l => k_X1_denied (f0.ext (EB.tr (E2.tr (E10.tr E30)))) l hw) (As := [iV 5]) (rest := []) rfl xc11 (Lay_X1.tag (f0.ext (EB.tr (E2.tr (E10.tr E30))))) (lw_V q1698 q1700 qs52 q123 q1701) hy_X1_denied rfl rfl (Nat.le_of_ble_eq_true rfl) (Nat.le_of_ble_eq_true rfl) (Nat.le_of_ble_eq_true rfl) (kkI (fun r38 m38 E38 hw => ?_))
          have hw := hw E38
          exact x_zret HE hr dX1_lets_41 hw.1 hw.2
      · have hw := hw.2 c18
        exact w_X1_lets_21 HE hr f0 hw
theorem k_X1_lets {G : GT} {x0 x1 x2 : Int} {Q : Int → Hp → Prop} {h : Hp} (f0 : Lay_X1 h x0) (l : Launch) (hw : g_X1_lets x0 x1 x2 Q h) : XM G l yX1_lets cX1_lets 3 (some .boolean) 8 211 [rV x0, iV x1, iV x2] (QI Q) h :=
  XM.of (by decide) (Nat.le_of_ble_eq_true rfl) (fun X HE hr hn => w_X1_lets_0 HE hr f0 hw)
def g_X1_calls (x0 x1 : Int) (Q : Int → Hp → Prop) (h : Hp) : Prop :=
  g_X1_isPerson x0 x1 (fun r2 m2 => Ext h m2 → (((r2 ≠ 0) → (g_X1_isWaiting x0 x1 (fun r16 m16 => Ext m2 m16 → (((r16 ≠ 0) → (g_X1_remembers x0 (fun m29 => Ext m16 m29 → ((Lay_X21 m29 (hF m29 x0 6)) ∧ (((0 : Int) ≤ x1 ∧ x1 < 10) ∧ ((i32 ((hA m29 ((hF m29 x0 6) + 3) x1) + 5)) ∧ (((0 : Int) ≤ x1 ∧ x1 < 10) ∧ (∀ m56 : Hp, m56 = setA m29 ((hF m29 x0 6) + 3) x1 (if ((hA m29 ((hF m29 x0 6) + 3) x1) + 5) < 99 then ((hA m29 ((hF m29 x0 6) + 3) x1) + 5) else 99) → ((Lay_X21 m56 (hF m56 x0 6)) ∧ (((0 : Int) ≤ x1 ∧ x1 < 10) ∧ (g_X1_well x0 (hA m56 ((hF m56 x0 6) + 3) x1) (fun r67 m67 => Ext m56 m67 → (Q r67 m67)) m56))))))))) m16)) ∧ ((r16 = 0) → (g_X1_refused x0 5 (fun r24 m24 => Ext m16 m24 → (Q r24 m24)) m16)))) m2)) ∧ ((r2 = 0) → (g_X1_refused x0 1 (fun r10 m10 => Ext m2 m10 → (Q r10 m10)) m2)))) h
theorem w_X1_calls_0 {G : GT} {X : ET} {h0 : Hp} {x0 x1 : Int} (HE : XE G X cX1_calls 2 RX1 8 211 h0) (hr : XR X (some .int)) (f0 : Lay_X1 h0 x0) {Q : Int → Hp → Prop} {h : Hp} (hw : g_X1_calls x0 x1 Q h) : Wx G X h0 (QI Q) h 0 [some (rV x0), some (iV x1)] [] := by
  refine Wx.start (fun EB => ?_)
  unfold g_X1_calls at hw
  refine x_aload_n HE 0 dX1_calls_0 rfl rfl ?_
  refine x_iload_n HE 1 dX1_calls_1 rfl rfl ?_
  refine x_callV HE dX1_calls_2 rfl (fun l => k_X1_isPerson (f0.ext EB) l hw) (As := [iV x1]) (rest := []) rfl xc11 (Lay_X1.tag (f0.ext EB)) (lw_V q1269 q1271 qs27 q123 q1272) hy_X1_isPerson rfl rfl (Nat.le_of_ble_eq_true rfl) (Nat.le_of_ble_eq_true rfl) (Nat.le_of_ble_eq_true rfl) (kkI (fun r2 m2 E2 hw => ?_))
  have hw := hw E2
  refine x_if_ne HE 14 dX1_calls_5 (by decide) (fun c5 => ?_) (fun c5 => ?_)
  · have hw := hw.1 c5
    refine x_aload_n HE 0 dX1_calls_14 rfl rfl ?_
    refine x_iload_n HE 1 dX1_calls_15 rfl rfl ?_
    refine x_callV HE dX1_calls_16 rfl (fun l => k_X1_isWaiting (f0.ext (EB.tr E2)) l hw) (As := [iV x1]) (rest := []) rfl xc11 (Lay_X1.tag (f0.ext (EB.tr E2))) (lw_V q1545 q1547 qs44 q123 q1548) hy_X1_isWaiting rfl rfl (Nat.le_of_ble_eq_true rfl) (Nat.le_of_ble_eq_true rfl) (Nat.le_of_ble_eq_true rfl) (kkI (fun r16 m16 E16 hw => ?_))
    have hw := hw E16
    refine x_if_ne HE 28 dX1_calls_19 (by decide) (fun c19 => ?_) (fun c19 => ?_)
    · have hw := hw.1 c19
      refine x_aload_n HE 0 dX1_calls_28 rfl rfl ?_
      refine x_callV HE dX1_calls_29 rfl (fun l => k_X1_remembers (f0.ext (EB.tr (E2.tr E16))) l hw) (As := []) (rest := []) rfl xc11 (Lay_X1.tag (f0.ext (EB.tr (E2.tr E16)))) (lw_V q1679 q1681 qs50 q123 q1682) hy_X1_remembers rfl rfl (Nat.le_of_ble_eq_true rfl) (Nat.le_of_ble_eq_true rfl) (Nat.le_of_ble_eq_true rfl) (kkV (fun m29 E29 hw => ?_))
      have hw := hw E29
      refine x_aload_n HE 0 dX1_calls_32 rfl rfl ?_
      refine x_gR HE dX1_calls_33 fd_X1_6 q228 (Or.inl rfl) (Lay_X1.tag (f0.ext (EB.tr (E2.tr (E16.tr E29))))) rfl ?_
      obtain ⟨v36, hw⟩ := hw
      refine x_gR HE dX1_calls_36 fd_X21_4 q1132 (Or.inl rfl) (Lay_X21.tag v36) (Lay_X21_4 v36).1 ?_
      refine x_iload_n HE 1 dX1_calls_39 rfl rfl ?_
      refine x_bipush HE dX1_calls_40 (by decide) ?_
      refine x_aload_n HE 0 dX1_calls_42 rfl rfl ?_
      refine x_gR HE dX1_calls_43 fd_X1_6 q228 (Or.inl rfl) (Lay_X1.tag (f0.ext (EB.tr (E2.tr (E16.tr E29))))) rfl ?_
      refine x_gR HE dX1_calls_46 fd_X21_4 q1132 (Or.inl rfl) (Lay_X21.tag v36) (Lay_X21_4 v36).1 ?_
      refine x_iload_n HE 1 dX1_calls_49 rfl rfl ?_
      obtain ⟨i50, hw⟩ := hw
      refine x_iald HE dX1_calls_50 (t := 1) (by decide) ((Lay_X21_4 v36).2.1) (ix_of ((Lay_X21_4 v36).2.2) i50) rfl ?_
      refine x_iconst HE dX1_calls_51 (by decide) ?_
      obtain ⟨v52, hw⟩ := hw
      refine x_iadd HE dX1_calls_52 v52 ?_
      refine x_mmin HE dX1_calls_53 rfl q1714 q452 q139 q453 (Nat.le_of_ble_eq_true rfl) (Nat.le_of_ble_eq_true rfl) (Nat.le_of_ble_eq_true rfl) ?_
      obtain ⟨i56, hw⟩ := hw
      refine x_iast HE dX1_calls_56 ((Lay_X21_4 v36).2.1) (ix_of ((Lay_X21_4 v36).2.2) i56) (fun m56 em56 E56 => ?_)
      have hw := hw m56 em56
      refine x_aload_n HE 0 dX1_calls_57 rfl rfl ?_
      refine x_aload_n HE 0 dX1_calls_58 rfl rfl ?_
      refine x_gR HE dX1_calls_59 fd_X1_6 q228 (Or.inl rfl) (Lay_X1.tag (f0.ext (EB.tr (E2.tr (E16.tr (E29.tr E56)))))) rfl ?_
      obtain ⟨v62, hw⟩ := hw
      refine x_gR HE dX1_calls_62 fd_X21_4 q1132 (Or.inl rfl) (Lay_X21.tag v62) (Lay_X21_4 v62).1 ?_
      refine x_iload_n HE 1 dX1_calls_65 rfl rfl ?_
      obtain ⟨i66, hw⟩ := hw
      refine x_iald HE dX1_calls_66 (t := 1) (by decide) ((Lay_X21_4 v62).2.1) (ix_of ((Lay_X21_4 v62).2.2) i66) rfl ?_
      refine x_callV HE dX1_calls_67 rfl (fun l => k_X1_well (f0.ext (EB.tr (E2.tr (E16.tr (E29.tr E56))))) l hw) (As := [iV (hA m56 ((hF m56 x0 6) + 3) x1)]) (rest := []) rfl xc11 (Lay_X1.tag (f0.ext (EB.tr (E2.tr (E16.tr (E29.tr E56)))))) (lw_V q1253 q1255 qs26 q123 q1256) hy_X1_well rfl rfl (Nat.le_of_ble_eq_true rfl) (Nat.le_of_ble_eq_true rfl) (Nat.le_of_ble_eq_true rfl) (kkI (fun r67 m67 E67 hw => ?_))
      have hw := hw E67
      exact x_iret HE hr dX1_calls_70 hw
    · have hw := hw.2 c19
      refine x_aload_n HE 0 dX1_calls_22 rfl rfl ?_
      refine x_iconst HE dX1_calls_23 (by decide) ?_
      refine x_callV HE dX1_calls_24 rfl (fun l => k_X1_refused (f0.ext (EB.tr (E2.tr E16))) l hw) (As := [iV 5]) (rest := []) rfl xc11 (Lay_X1.tag (f0.ext (EB.tr (E2.tr E16)))) (lw_V q279 q281 qs0 q123 q282) hy_X1_refused rfl rfl (Nat.le_of_ble_eq_true rfl) (Nat.le_of_ble_eq_true rfl) (Nat.le_of_ble_eq_true rfl) (kkI (fun r24 m24 E24 hw => ?_))
      have hw := hw E24
      exact x_iret HE hr dX1_calls_27 hw
  · have hw := hw.2 c5
    refine x_aload_n HE 0 dX1_calls_8 rfl rfl ?_
    refine x_iconst HE dX1_calls_9 (by decide) ?_
    refine x_callV HE dX1_calls_10 rfl (fun l => k_X1_refused (f0.ext (EB.tr E2)) l hw) (As := [iV 1]) (rest := []) rfl xc11 (Lay_X1.tag (f0.ext (EB.tr E2))) (lw_V q279 q281 qs0 q123 q282) hy_X1_refused rfl rfl (Nat.le_of_ble_eq_true rfl) (Nat.le_of_ble_eq_true rfl) (Nat.le_of_ble_eq_true rfl) (kkI (fun r10 m10 E10 hw => ?_))
    have hw := hw E10
    exact x_iret HE hr dX1_calls_13 hw
theorem k_X1_calls {G : GT} {x0 x1 : Int} {Q : Int → Hp → Prop} {h : Hp} (f0 : Lay_X1 h x0) (l : Launch) (hw : g_X1_calls x0 x1 Q h) : XM G l yX1_calls cX1_calls 2 (some .int) 8 211 [rV x0, iV x1] (QI Q) h :=
  XM.of (by decide) (Nat.le_of_ble_eq_true rfl) (fun X HE hr hn => w_X1_calls_0 HE hr f0 hw)
def g_X1_leaves (x0 x1 : Int) (Q : Int → Hp → Prop) (h : Hp) : Prop :=
  g_X1_isPerson x0 x1 (fun r2 m2 => Ext h m2 → (((r2 ≠ 0) → (g_X1_isWaiting x0 x1 (fun r16 m16 => Ext m2 m16 → (((r16 ≠ 0) → (g_X1_remembers x0 (fun m29 => Ext m16 m29 → ((Lay_X21 m29 (hF m29 x0 6)) ∧ (((0 : Int) ≤ x1 ∧ x1 < 10) ∧ (∀ m41 : Hp, m41 = setA m29 ((hF m29 x0 6) + 1) x1 5 → (g_X1_granted x0 (fun r43 m43 => Ext m41 m43 → ((r43 = 0 ∨ r43 = 1) ∧ Q r43 m43)) m41))))) m16)) ∧ ((r16 = 0) → (g_X1_denied x0 5 (fun r24 m24 => Ext m16 m24 → ((r24 = 0 ∨ r24 = 1) ∧ Q r24 m24)) m16)))) m2)) ∧ ((r2 = 0) → (g_X1_denied x0 1 (fun r10 m10 => Ext m2 m10 → ((r10 = 0 ∨ r10 = 1) ∧ Q r10 m10)) m2)))) h
theorem w_X1_leaves_0 {G : GT} {X : ET} {h0 : Hp} {x0 x1 : Int} (HE : XE G X cX1_leaves 2 RX1 8 211 h0) (hr : XR X (some .boolean)) (f0 : Lay_X1 h0 x0) {Q : Int → Hp → Prop} {h : Hp} (hw : g_X1_leaves x0 x1 Q h) : Wx G X h0 (QI Q) h 0 [some (rV x0), some (iV x1)] [] := by
  refine Wx.start (fun EB => ?_)
  unfold g_X1_leaves at hw
  refine x_aload_n HE 0 dX1_leaves_0 rfl rfl ?_
  refine x_iload_n HE 1 dX1_leaves_1 rfl rfl ?_
  refine x_callV HE dX1_leaves_2 rfl (fun l => k_X1_isPerson (f0.ext EB) l hw) (As := [iV x1]) (rest := []) rfl xc11 (Lay_X1.tag (f0.ext EB)) (lw_V q1269 q1271 qs27 q123 q1272) hy_X1_isPerson rfl rfl (Nat.le_of_ble_eq_true rfl) (Nat.le_of_ble_eq_true rfl) (Nat.le_of_ble_eq_true rfl) (kkI (fun r2 m2 E2 hw => ?_))
  have hw := hw E2
  refine x_if_ne HE 14 dX1_leaves_5 (by decide) (fun c5 => ?_) (fun c5 => ?_)
  · have hw := hw.1 c5
    refine x_aload_n HE 0 dX1_leaves_14 rfl rfl ?_
    refine x_iload_n HE 1 dX1_leaves_15 rfl rfl ?_
    refine x_callV HE dX1_leaves_16 rfl (fun l => k_X1_isWaiting (f0.ext (EB.tr E2)) l hw) (As := [iV x1]) (rest := []) rfl xc11 (Lay_X1.tag (f0.ext (EB.tr E2))) (lw_V q1545 q1547 qs44 q123 q1548) hy_X1_isWaiting rfl rfl (Nat.le_of_ble_eq_true rfl) (Nat.le_of_ble_eq_true rfl) (Nat.le_of_ble_eq_true rfl) (kkI (fun r16 m16 E16 hw => ?_))
    have hw := hw E16
    refine x_if_ne HE 28 dX1_leaves_19 (by decide) (fun c19 => ?_) (fun c19 => ?_)
    · have hw := hw.1 c19
      refine x_aload_n HE 0 dX1_leaves_28 rfl rfl ?_
      refine x_callV HE dX1_leaves_29 rfl (fun l => k_X1_remembers (f0.ext (EB.tr (E2.tr E16))) l hw) (As := []) (rest := []) rfl xc11 (Lay_X1.tag (f0.ext (EB.tr (E2.tr E16)))) (lw_V q1679 q1681 qs50 q123 q1682) hy_X1_remembers rfl rfl (Nat.le_of_ble_eq_true rfl) (Nat.le_of_ble_eq_true rfl) (Nat.le_of_ble_eq_true rfl) (kkV (fun m29 E29 hw => ?_))
      have hw := hw E29
      refine x_aload_n HE 0 dX1_leaves_32 rfl rfl ?_
      refine x_gR HE dX1_leaves_33 fd_X1_6 q228 (Or.inl rfl) (Lay_X1.tag (f0.ext (EB.tr (E2.tr (E16.tr E29))))) rfl ?_
      obtain ⟨v36, hw⟩ := hw
      refine x_gR HE dX1_leaves_36 fd_X21_2 q1125 (Or.inl rfl) (Lay_X21.tag v36) (Lay_X21_2 v36).1 ?_
      refine x_iload_n HE 1 dX1_leaves_39 rfl rfl ?_
      refine x_iconst HE dX1_leaves_40 (by decide) ?_
      obtain ⟨i41, hw⟩ := hw
      refine x_iast HE dX1_leaves_41 ((Lay_X21_2 v36).2.1) (ix_of ((Lay_X21_2 v36).2.2) i41) (fun m41 em41 E41 => ?_)
      have hw := hw m41 em41
      refine x_aload_n HE 0 dX1_leaves_42 rfl rfl ?_
      refine x_callV HE dX1_leaves_43 rfl (fun l => k_X1_granted (f0.ext (EB.tr (E2.tr (E16.tr (E29.tr E41))))) l hw) (As := []) (rest := []) rfl xc11 (Lay_X1.tag (f0.ext (EB.tr (E2.tr (E16.tr (E29.tr E41)))))) (lw_V q1702 q1704 qs53 q123 q1705) hy_X1_granted rfl rfl (Nat.le_of_ble_eq_true rfl) (Nat.le_of_ble_eq_true rfl) (Nat.le_of_ble_eq_true rfl) (kkI (fun r43 m43 E43 hw => ?_))
      have hw := hw E43
      exact x_zret HE hr dX1_leaves_46 hw.1 hw.2
    · have hw := hw.2 c19
      refine x_aload_n HE 0 dX1_leaves_22 rfl rfl ?_
      refine x_iconst HE dX1_leaves_23 (by decide) ?_
      refine x_callV HE dX1_leaves_24 rfl (fun l => k_X1_denied (f0.ext (EB.tr (E2.tr E16))) l hw) (As := [iV 5]) (rest := []) rfl xc11 (Lay_X1.tag (f0.ext (EB.tr (E2.tr E16)))) (lw_V q1698 q1700 qs52 q123 q1701) hy_X1_denied rfl rfl (Nat.le_of_ble_eq_true rfl) (Nat.le_of_ble_eq_true rfl) (Nat.le_of_ble_eq_true rfl) (kkI (fun r24 m24 E24 hw => ?_))
      have hw := hw E24
      exact x_zret HE hr dX1_leaves_27 hw.1 hw.2
  · have hw := hw.2 c5
    refine x_aload_n HE 0 dX1_leaves_8 rfl rfl ?_
    refine x_iconst HE dX1_leaves_9 (by decide) ?_
    refine x_callV HE dX1_leaves_10 rfl (fun l => k_X1_denied (f0.ext (EB.tr E2)) l hw) (As := [iV 1]) (rest := []) rfl xc11 (Lay_X1.tag (f0.ext (EB.tr E2))) (lw_V q1698 q1700 qs52 q123 q1701) hy_X1_denied rfl rfl (Nat.le_of_ble_eq_true rfl) (Nat.le_of_ble_eq_true rfl) (Nat.le_of_ble_eq_true rfl) (kkI (fun r10 m10 E10 hw => ?_))
    have hw := hw E10
    exact x_zret HE hr dX1_leaves_13 hw.1 hw.2
theorem k_X1_leaves {G : GT} {x0 x1 : Int} {Q : Int → Hp → Prop} {h : Hp} (f0 : Lay_X1 h x0) (l : Launch) (hw : g_X1_leaves x0 x1 Q h) : XM G l yX1_leaves cX1_leaves 2 (some .boolean) 8 211 [rV x0, iV x1] (QI Q) h :=
  XM.of (by decide) (Nat.le_of_ble_eq_true rfl) (fun X HE hr hn => w_X1_leaves_0 HE hr f0 hw)
def g_X1_undo (x0 : Int) (Q : Int → Hp → Prop) (h : Hp) : Prop :=
  g_J2_isEmpty (x0 + 4) (fun r4 m4 => Ext h m4 → (((r4 = 0) → (g_J2_size (x0 + 4) (fun r26 m26 => Ext m4 m26 → ((i32 (r26 - 1)) ∧ (g_J2_remove (x0 + 4) (r26 - 1) (fun r31 m31 => Ext m26 m31 → ((Lay_X21 m31 r31) ∧ (g_X1_shows x0 r31 (fun m37 => Ext m31 m37 → (g_X1_granted x0 (fun r41 m41 => Ext m37 m41 → ((r41 = 0 ∨ r41 = 1) ∧ Q r41 m41)) m37)) m31))) m26))) m4)) ∧ ((r4 ≠ 0) → (g_X1_denied x0 6 (fun r13 m13 => Ext m4 m13 → ((r13 = 0 ∨ r13 = 1) ∧ Q r13 m13)) m4)))) h
theorem w_X1_undo_0 {G : GT} {X : ET} {h0 : Hp} {x0 : Int} (HE : XE G X cX1_undo 1 RX1 3 106 h0) (hr : XR X (some .boolean)) (f0 : Lay_X1 h0 x0) {Q : Int → Hp → Prop} {h : Hp} (hw : g_X1_undo x0 Q h) : Wx G X h0 (QI Q) h 0 [some (rV x0)] [] := by
  refine Wx.start (fun EB => ?_)
  unfold g_X1_undo at hw
  refine x_aload_n HE 0 dX1_undo_0 rfl rfl ?_
  refine x_gR HE dX1_undo_1 fd_X1_13 q235 (Or.inl rfl) (Lay_X1.tag (f0.ext EB)) (Lay_X1_13 (f0.ext EB)).1 ?_
  refine x_callV HE dX1_undo_4 rfl (fun l => k_J2_isEmpty ((Lay_X1_13 (f0.ext EB)).2) l hw) (As := []) (rest := []) rfl xc32 ((Lay_X1_13 (f0.ext EB)).2) (lw_V q1723 q1075 q1076 q128 q1077) hy_J2_isEmpty rfl rfl (Nat.le_of_ble_eq_true rfl) (Nat.le_of_ble_eq_true rfl) (Nat.le_of_ble_eq_true rfl) (kkI (fun r4 m4 E4 hw => ?_))
  have hw := hw E4
  refine x_if_eq HE 17 dX1_undo_7 (by decide) (fun c7 => ?_) (fun c7 => ?_)
  · have hw := hw.1 c7
    refine x_aload_n HE 0 dX1_undo_17 rfl rfl ?_
    refine x_aload_n HE 0 dX1_undo_18 rfl rfl ?_
    refine x_gR HE dX1_undo_19 fd_X1_13 q235 (Or.inl rfl) (Lay_X1.tag (f0.ext (EB.tr E4))) (Lay_X1_13 (f0.ext (EB.tr E4))).1 ?_
    refine x_aload_n HE 0 dX1_undo_22 rfl rfl ?_
    refine x_gR HE dX1_undo_23 fd_X1_13 q235 (Or.inl rfl) (Lay_X1.tag (f0.ext (EB.tr E4))) (Lay_X1_13 (f0.ext (EB.tr E4))).1 ?_
    refine x_callV HE dX1_undo_26 rfl (fun l => k_J2_size ((Lay_X1_13 (f0.ext (EB.tr E4))).2) l hw) (As := []) (rest := [rV (x0 + 4), rV x0]) rfl xc32 ((Lay_X1_13 (f0.ext (EB.tr E4))).2) (lw_V q1252 q708 q709 q128 q710) hy_J2_size rfl rfl (Nat.le_of_ble_eq_true rfl) (Nat.le_of_ble_eq_true rfl) (Nat.le_of_ble_eq_true rfl) (kkI (fun r26 m26 E26 hw => ?_))
    have hw := hw E26
    refine x_iconst HE dX1_undo_29 (by decide) ?_
    obtain ⟨v30, hw⟩ := hw
    refine x_isub HE dX1_undo_30 v30 ?_
    refine x_callV HE dX1_undo_31 rfl (fun l => k_J2_remove ((Lay_X1_13 (f0.ext (EB.tr (E4.tr E26)))).2) l hw) (As := [iV (r26 - 1)]) (rest := [rV x0]) rfl xc32 ((Lay_X1_13 (f0.ext (EB.tr (E4.tr E26)))).2) (lw_V q1683 q1684 q1685 q128 q1686) hy_J2_remove rfl rfl (Nat.le_of_ble_eq_true rfl) (Nat.le_of_ble_eq_true rfl) (Nat.le_of_ble_eq_true rfl) (kkR (fun r31 m31 E31 hw => ?_))
    have hw := hw E31
    obtain ⟨v34, hw⟩ := hw
    refine x_castS HE dX1_undo_34 xc13 q1078 (Lay_X21.tag v34) ?_
    refine x_callV HE dX1_undo_37 rfl (fun l => k_X1_shows (f0.ext (EB.tr (E4.tr (E26.tr E31)))) l hw) (As := [rV r31]) (rest := []) rfl xc11 (Lay_X1.tag (f0.ext (EB.tr (E4.tr (E26.tr E31))))) (lw_V q1244 q1246 qs25 q123 q1247) hy_X1_shows rfl rfl (Nat.le_of_ble_eq_true rfl) (Nat.le_of_ble_eq_true rfl) (Nat.le_of_ble_eq_true rfl) (kkV (fun m37 E37 hw => ?_))
    have hw := hw E37
    refine x_aload_n HE 0 dX1_undo_40 rfl rfl ?_
    refine x_callV HE dX1_undo_41 rfl (fun l => k_X1_granted (f0.ext (EB.tr (E4.tr (E26.tr (E31.tr E37))))) l hw) (As := []) (rest := []) rfl xc11 (Lay_X1.tag (f0.ext (EB.tr (E4.tr (E26.tr (E31.tr E37)))))) (lw_V q1702 q1704 qs53 q123 q1705) hy_X1_granted rfl rfl (Nat.le_of_ble_eq_true rfl) (Nat.le_of_ble_eq_true rfl) (Nat.le_of_ble_eq_true rfl) (kkI (fun r41 m41 E41 hw => ?_))
    have hw := hw E41
    exact x_zret HE hr dX1_undo_44 hw.1 hw.2
  · have hw := hw.2 c7
    refine x_aload_n HE 0 dX1_undo_10 rfl rfl ?_
    refine x_bipush HE dX1_undo_11 (by decide) ?_
    refine x_callV HE dX1_undo_13 rfl (fun l => k_X1_denied (f0.ext (EB.tr E4)) l hw) (As := [iV 6]) (rest := []) rfl xc11 (Lay_X1.tag (f0.ext (EB.tr E4))) (lw_V q1698 q1700 qs52 q123 q1701) hy_X1_denied rfl rfl (Nat.le_of_ble_eq_true rfl) (Nat.le_of_ble_eq_true rfl) (Nat.le_of_ble_eq_true rfl) (kkI (fun r13 m13 E13 hw => ?_))
    have hw := hw E13
    exact x_zret HE hr dX1_undo_16 hw.1 hw.2
theorem k_X1_undo {G : GT} {x0 : Int} {Q : Int → Hp → Prop} {h : Hp} (f0 : Lay_X1 h x0) (l : Launch) (hw : g_X1_undo x0 Q h) : XM G l yX1_undo cX1_undo 1 (some .boolean) 3 106 [rV x0] (QI Q) h :=
  XM.of (by decide) (Nat.le_of_ble_eq_true rfl) (fun X HE hr hn => w_X1_undo_0 HE hr f0 hw)
def g_X1_image (x0 : Int) (Q : Int → Hp → Prop) (h : Hp) : Prop :=
  ((0 < (hF h x0 5)) → (g_J2_size (x0 + 5) (fun r17 m17 => Ext h m17 → (((r17 ≠ 3) → ((Lay_X21 m17 (hF m17 x0 6)) ∧ (g_X21_copy (hF m17 x0 6) (fun r38 m38 => Ext m17 m38 → (g_J2_add (x0 + 5) r38 (fun r41 m41 => Ext m38 m41 → (g_J2_size (x0 + 5) (fun r50 m50 => Ext m41 m50 → ((i32 (r50 - 1)) ∧ (g_X1_well x0 (r50 - 1) (fun r55 m55 => Ext m50 m55 → (Q r55 m55)) m50))) m41)) m38)) m17))) ∧ ((r17 = 3) → (g_X1_refused x0 3 (fun r26 m26 => Ext m17 m26 → (Q r26 m26)) m17)))) h)) ∧ (((hF h x0 5) = 0) → (g_X1_refused x0 1 (fun r9 m9 => Ext h m9 → (Q r9 m9)) h))
theorem w_X1_image_0 {G : GT} {X : ET} {h0 : Hp} {x0 : Int} (HE : XE G X cX1_image 1 RX1 7 191 h0) (hr : XR X (some .int)) (f0 : Lay_X1 h0 x0) {Q : Int → Hp → Prop} {h : Hp} (hw : g_X1_image x0 Q h) : Wx G X h0 (QI Q) h 0 [some (rV x0)] [] := by
  refine Wx.start (fun EB => ?_)
  unfold g_X1_image at hw
  refine x_aload_n HE 0 dX1_image_0 rfl rfl ?_
  refine x_gR HE dX1_image_1 fd_X1_5 q227 (Or.inl rfl) (Lay_X1.tag (f0.ext EB)) rfl ?_
  refine x_ifnonnull HE 13 dX1_image_4 (by decide) (fun c4 => ?_) (fun c4 => ?_)
  · have hw := hw.1 c4
    refine x_aload_n HE 0 dX1_image_13 rfl rfl ?_
    refine x_gR HE dX1_image_14 fd_X1_14 q236 (Or.inl rfl) (Lay_X1.tag (f0.ext EB)) (Lay_X1_14 (f0.ext EB)).1 ?_
    refine x_callV HE dX1_image_17 rfl (fun l => k_J2_size ((Lay_X1_14 (f0.ext EB)).2) l hw) (As := []) (rest := []) rfl xc32 ((Lay_X1_14 (f0.ext EB)).2) (lw_V q1252 q708 q709 q128 q710) hy_J2_size rfl rfl (Nat.le_of_ble_eq_true rfl) (Nat.le_of_ble_eq_true rfl) (Nat.le_of_ble_eq_true rfl) (kkI (fun r17 m17 E17 hw => ?_))
    have hw := hw E17
    refine x_iconst HE dX1_image_20 (by decide) ?_
    refine x_ic_ne HE 30 dX1_image_21 (by decide) (fun c21 => ?_) (fun c21 => ?_)
    · have hw := hw.1 c21
      refine x_aload_n HE 0 dX1_image_30 rfl rfl ?_
      refine x_gR HE dX1_image_31 fd_X1_14 q236 (Or.inl rfl) (Lay_X1.tag (f0.ext (EB.tr E17))) (Lay_X1_14 (f0.ext (EB.tr E17))).1 ?_
      refine x_aload_n HE 0 dX1_image_34 rfl rfl ?_
      refine x_gR HE dX1_image_35 fd_X1_6 q228 (Or.inl rfl) (Lay_X1.tag (f0.ext (EB.tr E17))) rfl ?_
      obtain ⟨u38_0, hw⟩ := hw
      refine x_callV HE dX1_image_38 rfl (fun l => k_X21_copy u38_0 l hw) (As := []) (rest := [rV (x0 + 5)]) rfl xc13 (Lay_X21.tag u38_0) (lw_V q1233 q1234 q1235 q157 q1236) hy_X21_copy rfl rfl (Nat.le_of_ble_eq_true rfl) (Nat.le_of_ble_eq_true rfl) (Nat.le_of_ble_eq_true rfl) (kkR (fun r38 m38 E38 hw => ?_))
      have hw := hw E38
      refine x_callV HE dX1_image_41 rfl (fun l => k_J2_add ((Lay_X1_14 (f0.ext (EB.tr (E17.tr E38)))).2) l hw) (As := [rV r38]) (rest := []) rfl xc32 ((Lay_X1_14 (f0.ext (EB.tr (E17.tr E38)))).2) (lw_V q1692 q784 q785 q128 q786) hy_J2_add rfl rfl (Nat.le_of_ble_eq_true rfl) (Nat.le_of_ble_eq_true rfl) (Nat.le_of_ble_eq_true rfl) (kkI (fun r41 m41 E41 hw => ?_))
      have hw := hw E41
      refine x_pop HE dX1_image_44 (fun o => o) ?_
      refine x_aload_n HE 0 dX1_image_45 rfl rfl ?_
      refine x_aload_n HE 0 dX1_image_46 rfl rfl ?_
      refine x_gR HE dX1_image_47 fd_X1_14 q236 (Or.inl rfl) (Lay_X1.tag (f0.ext (EB.tr (E17.tr (E38.tr E41))))) (Lay_X1_14 (f0.ext (EB.tr (E17.tr (E38.tr E41))))).1 ?_
      refine x_callV HE dX1_image_50 rfl (fun l => k_J2_size ((Lay_X1_14 (f0.ext (EB.tr (E17.tr (E38.tr E41))))).2) l hw) (As := []) (rest := [rV x0]) rfl xc32 ((Lay_X1_14 (f0.ext (EB.tr (E17.tr (E38.tr E41))))).2) (lw_V q1252 q708 q709 q128 q710) hy_J2_size rfl rfl (Nat.le_of_ble_eq_true rfl) (Nat.le_of_ble_eq_true rfl) (Nat.le_of_ble_eq_true rfl) (kkI (fun r50 m50 E50 hw => ?_))
      have hw := hw E50
      refine x_iconst HE dX1_image_53 (by decide) ?_
      obtain ⟨v54, hw⟩ := hw
      refine x_isub HE dX1_image_54 v54 ?_
      refine x_callV HE dX1_image_55 rfl (fun l => k_X1_well (f0.ext (EB.tr (E17.tr (E38.tr (E41.tr E50))))) l hw) (As := [iV (r50 - 1)]) (rest := []) rfl xc11 (Lay_X1.tag (f0.ext (EB.tr (E17.tr (E38.tr (E41.tr E50)))))) (lw_V q1253 q1255 qs26 q123 q1256) hy_X1_well rfl rfl (Nat.le_of_ble_eq_true rfl) (Nat.le_of_ble_eq_true rfl) (Nat.le_of_ble_eq_true rfl) (kkI (fun r55 m55 E55 hw => ?_))
      have hw := hw E55
      exact x_iret HE hr dX1_image_58 hw
    · have hw := hw.2 c21
      refine x_aload_n HE 0 dX1_image_24 rfl rfl ?_
      refine x_iconst HE dX1_image_25 (by decide) ?_
      refine x_callV HE dX1_image_26 rfl (fun l => k_X1_refused (f0.ext (EB.tr E17)) l hw) (As := [iV 3]) (rest := []) rfl xc11 (Lay_X1.tag (f0.ext (EB.tr E17))) (lw_V q279 q281 qs0 q123 q282) hy_X1_refused rfl rfl (Nat.le_of_ble_eq_true rfl) (Nat.le_of_ble_eq_true rfl) (Nat.le_of_ble_eq_true rfl) (kkI (fun r26 m26 E26 hw => ?_))
      have hw := hw E26
      exact x_iret HE hr dX1_image_29 hw
  · have hw := hw.2 c4
    refine x_aload_n HE 0 dX1_image_7 rfl rfl ?_
    refine x_iconst HE dX1_image_8 (by decide) ?_
    refine x_callV HE dX1_image_9 rfl (fun l => k_X1_refused (f0.ext EB) l hw) (As := [iV 1]) (rest := []) rfl xc11 (Lay_X1.tag (f0.ext EB)) (lw_V q279 q281 qs0 q123 q282) hy_X1_refused rfl rfl (Nat.le_of_ble_eq_true rfl) (Nat.le_of_ble_eq_true rfl) (Nat.le_of_ble_eq_true rfl) (kkI (fun r9 m9 E9 hw => ?_))
    have hw := hw E9
    exact x_iret HE hr dX1_image_12 hw
theorem k_X1_image {G : GT} {x0 : Int} {Q : Int → Hp → Prop} {h : Hp} (f0 : Lay_X1 h x0) (l : Launch) (hw : g_X1_image x0 Q h) : XM G l yX1_image cX1_image 1 (some .int) 7 191 [rV x0] (QI Q) h :=
  XM.of (by decide) (Nat.le_of_ble_eq_true rfl) (fun X HE hr hn => w_X1_image_0 HE hr f0 hw)
def g_X1_back (x0 x1 : Int) (Q : Int → Hp → Prop) (h : Hp) : Prop :=
  g_J2_size (x0 + 5) (fun r6 m6 => Ext h m6 → ((i32 (r6 - 1)) ∧ (g_X1_in x1 0 (r6 - 1) (fun r11 m11 => Ext m6 m11 → (((r11 ≠ 0) → (g_J2_get (x0 + 5) x1 (fun r29 m29 => Ext m11 m29 → ((Lay_X21 m29 r29) ∧ (g_X21_copy r29 (fun r35 m35 => Ext m29 m35 → (g_X1_shows x0 r35 (fun m38 => Ext m35 m38 → (g_J2_clear (x0 + 4) (fun m45 => Ext m38 m45 → (g_X1_granted x0 (fun r49 m49 => Ext m45 m49 → ((r49 = 0 ∨ r49 = 1) ∧ Q r49 m49)) m45)) m38)) m35)) m29))) m11)) ∧ ((r11 = 0) → (g_X1_denied x0 1 (fun r19 m19 => Ext m11 m19 → ((r19 = 0 ∨ r19 = 1) ∧ Q r19 m19)) m11)))) m6))) h
theorem w_X1_back_0 {G : GT} {X : ET} {h0 : Hp} {x0 x1 : Int} (HE : XE G X cX1_back 2 RX1 6 130 h0) (hr : XR X (some .boolean)) (f0 : Lay_X1 h0 x0) {Q : Int → Hp → Prop} {h : Hp} (hw : g_X1_back x0 x1 Q h) : Wx G X h0 (QI Q) h 0 [some (rV x0), some (iV x1)] [] := by
  refine Wx.start (fun EB => ?_)
  unfold g_X1_back at hw
  refine x_iload_n HE 1 dX1_back_0 rfl rfl ?_
  refine x_iconst HE dX1_back_1 (by decide) ?_
  refine x_aload_n HE 0 dX1_back_2 rfl rfl ?_
  refine x_gR HE dX1_back_3 fd_X1_14 q236 (Or.inl rfl) (Lay_X1.tag (f0.ext EB)) (Lay_X1_14 (f0.ext EB)).1 ?_
  refine x_callV HE dX1_back_6 rfl (fun l => k_J2_size ((Lay_X1_14 (f0.ext EB)).2) l hw) (As := []) (rest := [iV 0, iV x1]) rfl xc32 ((Lay_X1_14 (f0.ext EB)).2) (lw_V q1252 q708 q709 q128 q710) hy_J2_size rfl rfl (Nat.le_of_ble_eq_true rfl) (Nat.le_of_ble_eq_true rfl) (Nat.le_of_ble_eq_true rfl) (kkI (fun r6 m6 E6 hw => ?_))
  have hw := hw E6
  refine x_iconst HE dX1_back_9 (by decide) ?_
  obtain ⟨v10, hw⟩ := hw
  refine x_isub HE dX1_back_10 v10 ?_
  refine x_callS HE dX1_back_11 rfl (fun l => k_X1_in  l hw) (As := [iV x1, iV 0, iV (r6 - 1)]) (rest := []) rfl (lw_S q276 q277 q123 q278) hy_X1_in.2 rfl rfl (Nat.le_of_ble_eq_true rfl) (Nat.le_of_ble_eq_true rfl) (Nat.le_of_ble_eq_true rfl) (kkI (fun r11 m11 E11 hw => ?_))
  have hw := hw E11
  refine x_if_ne HE 23 dX1_back_14 (by decide) (fun c14 => ?_) (fun c14 => ?_)
  · have hw := hw.1 c14
    refine x_aload_n HE 0 dX1_back_23 rfl rfl ?_
    refine x_aload_n HE 0 dX1_back_24 rfl rfl ?_
    refine x_gR HE dX1_back_25 fd_X1_14 q236 (Or.inl rfl) (Lay_X1.tag (f0.ext (EB.tr (E6.tr E11)))) (Lay_X1_14 (f0.ext (EB.tr (E6.tr E11)))).1 ?_
    refine x_iload_n HE 1 dX1_back_28 rfl rfl ?_
    refine x_callV HE dX1_back_29 rfl (fun l => k_J2_get ((Lay_X1_14 (f0.ext (EB.tr (E6.tr E11)))).2) l hw) (As := [iV x1]) (rest := [rV x0]) rfl xc32 ((Lay_X1_14 (f0.ext (EB.tr (E6.tr E11)))).2) (lw_V q1500 q736 q737 q128 q738) hy_J2_get rfl rfl (Nat.le_of_ble_eq_true rfl) (Nat.le_of_ble_eq_true rfl) (Nat.le_of_ble_eq_true rfl) (kkR (fun r29 m29 E29 hw => ?_))
    have hw := hw E29
    obtain ⟨v32, hw⟩ := hw
    refine x_castS HE dX1_back_32 xc13 q1078 (Lay_X21.tag v32) ?_
    refine x_callV HE dX1_back_35 rfl (fun l => k_X21_copy v32 l hw) (As := []) (rest := [rV x0]) rfl xc13 (Lay_X21.tag v32) (lw_V q1233 q1234 q1235 q157 q1236) hy_X21_copy rfl rfl (Nat.le_of_ble_eq_true rfl) (Nat.le_of_ble_eq_true rfl) (Nat.le_of_ble_eq_true rfl) (kkR (fun r35 m35 E35 hw => ?_))
    have hw := hw E35
    refine x_callV HE dX1_back_38 rfl (fun l => k_X1_shows (f0.ext (EB.tr (E6.tr (E11.tr (E29.tr E35))))) l hw) (As := [rV r35]) (rest := []) rfl xc11 (Lay_X1.tag (f0.ext (EB.tr (E6.tr (E11.tr (E29.tr E35)))))) (lw_V q1244 q1246 qs25 q123 q1247) hy_X1_shows rfl rfl (Nat.le_of_ble_eq_true rfl) (Nat.le_of_ble_eq_true rfl) (Nat.le_of_ble_eq_true rfl) (kkV (fun m38 E38 hw => ?_))
    have hw := hw E38
    refine x_aload_n HE 0 dX1_back_41 rfl rfl ?_
    refine x_gR HE dX1_back_42 fd_X1_13 q235 (Or.inl rfl) (Lay_X1.tag (f0.ext (EB.tr (E6.tr (E11.tr (E29.tr (E35.tr E38))))))) (Lay_X1_13 (f0.ext (EB.tr (E6.tr (E11.tr (E29.tr (E35.tr E38))))))).1 ?_
    refine x_callV HE dX1_back_45 rfl (fun l => k_J2_clear ((Lay_X1_13 (f0.ext (EB.tr (E6.tr (E11.tr (E29.tr (E35.tr E38))))))).2) l hw) (As := []) (rest := []) rfl xc32 ((Lay_X1_13 (f0.ext (EB.tr (E6.tr (E11.tr (E29.tr (E35.tr E38))))))).2) (lw_V q1248 q1249 q1250 q128 q1251) hy_J2_clear rfl rfl (Nat.le_of_ble_eq_true rfl) (Nat.le_of_ble_eq_true rfl) (Nat.le_of_ble_eq_true rfl) (kkV (fun m45 E45 hw => ?_))
    have hw := hw E45
    refine x_aload_n HE 0 dX1_back_48 rfl rfl ?_
    refine x_callV HE dX1_back_49 rfl (fun l => k_X1_granted (f0.ext (EB.tr (E6.tr (E11.tr (E29.tr (E35.tr (E38.tr E45))))))) l hw) (As := []) (rest := []) rfl xc11 (Lay_X1.tag (f0.ext (EB.tr (E6.tr (E11.tr (E29.tr (E35.tr (E38.tr E45)))))))) (lw_V q1702 q1704 qs53 q123 q1705) hy_X1_granted rfl rfl (Nat.le_of_ble_eq_true rfl) (Nat.le_of_ble_eq_true rfl) (Nat.le_of_ble_eq_true rfl) (kkI (fun r49 m49 E49 hw => ?_))
    have hw := hw E49
    exact x_zret HE hr dX1_back_52 hw.1 hw.2
  · have hw := hw.2 c14
    refine x_aload_n HE 0 dX1_back_17 rfl rfl ?_
    refine x_iconst HE dX1_back_18 (by decide) ?_
    refine x_callV HE dX1_back_19 rfl (fun l => k_X1_denied (f0.ext (EB.tr (E6.tr E11))) l hw) (As := [iV 1]) (rest := []) rfl xc11 (Lay_X1.tag (f0.ext (EB.tr (E6.tr E11)))) (lw_V q1698 q1700 qs52 q123 q1701) hy_X1_denied rfl rfl (Nat.le_of_ble_eq_true rfl) (Nat.le_of_ble_eq_true rfl) (Nat.le_of_ble_eq_true rfl) (kkI (fun r19 m19 E19 hw => ?_))
    have hw := hw E19
    exact x_zret HE hr dX1_back_22 hw.1 hw.2
theorem k_X1_back {G : GT} {x0 x1 : Int} {Q : Int → Hp → Prop} {h : Hp} (f0 : Lay_X1 h x0) (l : Launch) (hw : g_X1_back x0 x1 Q h) : XM G l yX1_back cX1_back 2 (some .boolean) 6 130 [rV x0, iV x1] (QI Q) h :=
  XM.of (by decide) (Nat.le_of_ble_eq_true rfl) (fun X HE hr hn => w_X1_back_0 HE hr f0 hw)
def g_X1_told_b18 (x0 x1 x2 : Int) (Q : Int → Hp → Prop) (h : Hp) : Prop :=
  g_X1_refused x0 1 (fun r20 m20 => Ext h m20 → (Q r20 m20)) h
theorem w_X1_told_18 {G : GT} {X : ET} {h0 : Hp} {x0 x1 x2 : Int} (HE : XE G X cX1_told 4 RX1 3 64 h0) (hr : XR X (some .int)) (f0 : Lay_X1 h0 x0) {Q : Int → Hp → Prop} {h : Hp} (hw : g_X1_told_b18 x0 x1 x2 Q  h) : Wx G X h0 (QI Q) h 18 [some (rV x0), some (iV x1), some (iV x2), none] [] := by
  refine Wx.start (fun EB => ?_)
  unfold g_X1_told_b18 at hw
  refine x_aload_n HE 0 dX1_told_18 rfl rfl ?_
  refine x_iconst HE dX1_told_19 (by decide) ?_
  refine x_callV HE dX1_told_20 rfl (fun l => k_X1_refused (f0.ext EB) l hw) (As := [iV 1]) (rest := []) rfl xc11 (Lay_X1.tag (f0.ext EB)) (lw_V q279 q281 qs0 q123 q282) hy_X1_refused rfl rfl (Nat.le_of_ble_eq_true rfl) (Nat.le_of_ble_eq_true rfl) (Nat.le_of_ble_eq_true rfl) (kkI (fun r20 m20 E20 hw => ?_))
  have hw := hw E20
  exact x_iret HE hr dX1_told_23 hw
def g_X1_told (x0 x1 x2 : Int) (Q : Int → Hp → Prop) (h : Hp) : Prop :=
  g_X1_isPerson x0 x1 (fun r2 m2 => Ext h m2 → (((r2 = 0) → (g_X1_told_b18 x0 x1 x2 Q m2)) ∧ ((r2 ≠ 0) → (g_X1_in x2 0 6 (fun r12 m12 => Ext m2 m12 → (((r12 ≠ 0) → ((Lay_X7 m12 (hF m12 x0 5)) ∧ (g_J2_get ((hF m12 x0 5) + 3) x1 (fun r32 m32 => Ext m12 m32 → ((Lay_X17 m32 r32) ∧ (((x2 = 0) → (∀ K_85 : Int → Hp → Prop, K_85 = (fun (r85 : Int) (m85 : Hp) => Ext m32 m85 → (g_X1_well x0 r85 (fun r88 m88 => Ext m85 m88 → (Q r88 m88)) m85)) → ((hT m32 (hF m32 r32 1) = 23 ∨ hT m32 (hF m32 r32 1) = 24 ∨ hT m32 (hF m32 r32 1) = 25 ∨ hT m32 (hF m32 r32 1) = 26) ∧ (hT m32 (hF m32 r32 1) = 23 → g_X2_number (hF m32 r32 1) K_85 m32) ∧ (hT m32 (hF m32 r32 1) = 24 → g_X3_number (hF m32 r32 1) K_85 m32) ∧ (hT m32 (hF m32 r32 1) = 25 → g_X18_number (hF m32 r32 1) K_85 m32) ∧ (hT m32 (hF m32 r32 1) = 26 → g_X19_number (hF m32 r32 1) K_85 m32)))) ∧ ((x2 = 1) → ((hT m32 (hF m32 r32 1) = 23 ∨ hT m32 (hF m32 r32 1) = 24 ∨ hT m32 (hF m32 r32 1) = 25 ∨ hT m32 (hF m32 r32 1) = 26) ∧ (g_X1_well x0 (hF m32 (hF m32 r32 1) 0) (fun r100 m100 => Ext m32 m100 → (Q r100 m100)) m32))) ∧ ((x2 = 2) → (g_X1_well x0 (hF m32 r32 3) (fun r109 m109 => Ext m32 m109 → (Q r109 m109)) m32)) ∧ ((x2 = 3) → (g_X1_well x0 (hF m32 r32 4) (fun r118 m118 => Ext m32 m118 → (Q r118 m118)) m32)) ∧ ((x2 = 4) → (g_X1_well x0 (hF m32 r32 5) (fun r127 m127 => Ext m32 m127 → (Q r127 m127)) m32)) ∧ ((x2 = 5) → (g_X1_well x0 (hF m32 r32 6) (fun r136 m136 => Ext m32 m136 → (Q r136 m136)) m32)) ∧ ((x2 ≠ 0 ∧ x2 ≠ 1 ∧ x2 ≠ 2 ∧ x2 ≠ 3 ∧ x2 ≠ 4 ∧ x2 ≠ 5) → (g_X1_well x0 (hF m32 r32 7) (fun r145 m145 => Ext m32 m145 → (Q r145 m145)) m32))))) m12))) ∧ ((r12 = 0) → (g_X1_told_b18 x0 x1 x2 Q m12)))) m2)))) h
theorem w_X1_told_0 {G : GT} {X : ET} {h0 : Hp} {x0 x1 x2 : Int} (HE : XE G X cX1_told 4 RX1 3 64 h0) (hr : XR X (some .int)) (f0 : Lay_X1 h0 x0) {Q : Int → Hp → Prop} {h : Hp} (hw : g_X1_told x0 x1 x2 Q h) : Wx G X h0 (QI Q) h 0 [some (rV x0), some (iV x1), some (iV x2), none] [] := by
  refine Wx.start (fun EB => ?_)
  unfold g_X1_told at hw
  refine x_aload_n HE 0 dX1_told_0 rfl rfl ?_
  refine x_iload_n HE 1 dX1_told_1 rfl rfl ?_
  refine x_callV HE dX1_told_2 rfl (fun l => k_X1_isPerson (f0.ext EB) l hw) (As := [iV x1]) (rest := []) rfl xc11 (Lay_X1.tag (f0.ext EB)) (lw_V q1269 q1271 qs27 q123 q1272) hy_X1_isPerson rfl rfl (Nat.le_of_ble_eq_true rfl) (Nat.le_of_ble_eq_true rfl) (Nat.le_of_ble_eq_true rfl) (kkI (fun r2 m2 E2 hw => ?_))
  have hw := hw E2
  refine x_if_eq HE 18 dX1_told_5 (by decide) (fun c5 => ?_) (fun c5 => ?_)
  · have hw := hw.1 c5
    exact w_X1_told_18 HE hr f0 hw
  · have hw := hw.2 c5
    refine x_iload_n HE 2 dX1_told_8 rfl rfl ?_
    refine x_iconst HE dX1_told_9 (by decide) ?_
    refine x_bipush HE dX1_told_10 (by decide) ?_
    refine x_callS HE dX1_told_12 rfl (fun l => k_X1_in  l hw) (As := [iV x2, iV 0, iV 6]) (rest := []) rfl (lw_S q276 q277 q123 q278) hy_X1_in.2 rfl rfl (Nat.le_of_ble_eq_true rfl) (Nat.le_of_ble_eq_true rfl) (Nat.le_of_ble_eq_true rfl) (kkI (fun r12 m12 E12 hw => ?_))
    have hw := hw E12
    refine x_if_ne HE 24 dX1_told_15 (by decide) (fun c15 => ?_) (fun c15 => ?_)
    · have hw := hw.1 c15
      refine x_aload_n HE 0 dX1_told_24 rfl rfl ?_
      refine x_gR HE dX1_told_25 fd_X1_5 q227 (Or.inl rfl) (Lay_X1.tag (f0.ext (EB.tr (E2.tr E12)))) rfl ?_
      obtain ⟨v28, hw⟩ := hw
      refine x_gR HE dX1_told_28 fd_X7_5 q331 (Or.inl rfl) (Lay_X7.tag v28) (Lay_X7_5 v28).1 ?_
      refine x_iload_n HE 1 dX1_told_31 rfl rfl ?_
      refine x_callV HE dX1_told_32 rfl (fun l => k_J2_get ((Lay_X7_5 v28).2) l hw) (As := [iV x1]) (rest := []) rfl xc32 ((Lay_X7_5 v28).2) (lw_V q1500 q736 q737 q128 q738) hy_J2_get rfl rfl (Nat.le_of_ble_eq_true rfl) (Nat.le_of_ble_eq_true rfl) (Nat.le_of_ble_eq_true rfl) (kkR (fun r32 m32 E32 hw => ?_))
      have hw := hw E32
      obtain ⟨v35, hw⟩ := hw
      refine x_castS HE dX1_told_35 xc14 q1501 (Lay_X17.tag v35) ?_
      refine x_astore_n HE 3 (lo' := [some (rV x0), some (iV x1), some (iV x2), some (rV r32)]) dX1_told_38 rfl (Nat.le_of_ble_eq_true rfl) rfl ?_
      refine x_iload_n HE 2 dX1_told_39 rfl rfl ?_
      by_cases s40_0 : x2 = 0
      · have hw := hw.1 s40_0
        refine x_tabIn HE 80 dX1_told_40 0 s40_0 (by decide) rfl (by decide) ?_
        refine x_aload_n HE 0 dX1_told_80 rfl rfl ?_
        refine x_aload_n HE 3 dX1_told_81 rfl rfl ?_
        refine x_gR HE dX1_told_82 fd_X17_1 q980 (Or.inl rfl) (Lay_X17.tag v35) rfl ?_
        have hw := hw _ rfl
        have hk85 : ∀ (r85 : Int) (m85 : Hp), Ext m32 m85 → (g_X1_well x0 r85 (fun r88 m88 => Ext m85 m88 → (Q r88 m88)) m85) → Wx G X h0 (QI Q) m85 88 [some (rV x0), some (iV x1), some (iV x2), some (rV r32)] (iV r85 :: [rV x0]) := by
          intro r85 m85 E85 hw
          refine x_callV HE dX1_told_88 rfl (fun l => k_X1_well (f0.ext (EB.tr (E2.tr (E12.tr (E32.tr E85))))) l hw) (As := [iV r85]) (rest := []) rfl xc11 (Lay_X1.tag (f0.ext (EB.tr (E2.tr (E12.tr (E32.tr E85)))))) (lw_V q1253 q1255 qs26 q123 q1256) hy_X1_well rfl rfl (Nat.le_of_ble_eq_true rfl) (Nat.le_of_ble_eq_true rfl) (Nat.le_of_ble_eq_true rfl) (kkI (fun r88 m88 E88 hw => ?_))
          have hw := hw E88
          exact x_iret HE hr dX1_told_91 hw
        obtain ⟨hd85, hw⟩ := hw
        rcases hd85 with t85_0 | t85_1 | t85_2 | t85_3
        · exact x_callV HE dX1_told_85 rfl (fun l => k_X2_number  l (hw.1 t85_0)) (As := []) (rest := [rV x0]) rfl xc23 t85_0 (lw_V q1736 q1737 q1738 q124 q1749) hy_X2_number rfl rfl (Nat.le_of_ble_eq_true rfl) (Nat.le_of_ble_eq_true rfl) (Nat.le_of_ble_eq_true rfl) (kkI (fun r h1 E hq => hk85 r h1 E (hq E)))
        · exact x_callU (C := RX3) HE dX1_told_85 rfl (fun l => k_X3_number  l (hw.2.1 t85_1)) (As := []) (rest := [rV x0]) rfl xc24 t85_1 (fun ht hK hR => va_cwO 0 ht (lw_app (fun w hw2 => xw6 q1736 q1739 q1737 q1740 q1741 q125 w hw2) (lw_meth q1742)) rfl rfl rfl q1749 hy_X2_number.2 hR) rfl rfl (Nat.le_of_ble_eq_true rfl) (Nat.le_of_ble_eq_true rfl) (Nat.le_of_ble_eq_true rfl) (kkI (fun r h1 E hq => hk85 r h1 E (hq E)))
        · exact x_callU (C := RX18) HE dX1_told_85 rfl (fun l => k_X18_number  l (hw.2.2.1 t85_2)) (As := []) (rest := [rV x0]) rfl xc25 t85_2 (fun ht hK hR => va_cwO 0 ht (lw_app (fun w hw2 => xw6 q1736 q1739 q1737 q1743 q1744 q154 w hw2) (lw_meth q1745)) rfl rfl rfl q1749 hy_X2_number.2 hR) rfl rfl (Nat.le_of_ble_eq_true rfl) (Nat.le_of_ble_eq_true rfl) (Nat.le_of_ble_eq_true rfl) (kkI (fun r h1 E hq => hk85 r h1 E (hq E)))
        · exact x_callU (C := RX19) HE dX1_told_85 rfl (fun l => k_X19_number  l (hw.2.2.2 t85_3)) (As := []) (rest := [rV x0]) rfl xc26 t85_3 (fun ht hK hR => va_cwO 0 ht (lw_app (fun w hw2 => xw6 q1736 q1739 q1737 q1746 q1747 q155 w hw2) (lw_meth q1748)) rfl rfl rfl q1749 hy_X2_number.2 hR) rfl rfl (Nat.le_of_ble_eq_true rfl) (Nat.le_of_ble_eq_true rfl) (Nat.le_of_ble_eq_true rfl) (kkI (fun r h1 E hq => hk85 r h1 E (hq E)))
      have hw := hw.2
      by_cases s40_1 : x2 = 1
      · have hw := hw.1 s40_1
        refine x_tabIn HE 92 dX1_told_40 1 s40_1 (by decide) rfl (by decide) ?_
        refine x_aload_n HE 0 dX1_told_92 rfl rfl ?_
        refine x_aload_n HE 3 dX1_told_93 rfl rfl ?_
        refine x_gR HE dX1_told_94 fd_X17_1 q980 (Or.inl rfl) (Lay_X17.tag v35) rfl ?_
        obtain ⟨v97, hw⟩ := hw
        refine x_gIM HE dX1_told_97 q183 v97 rfl ?_
        refine x_callV HE dX1_told_100 rfl (fun l => k_X1_well (f0.ext (EB.tr (E2.tr (E12.tr E32)))) l hw) (As := [iV (hF m32 (hF m32 r32 1) 0)]) (rest := []) rfl xc11 (Lay_X1.tag (f0.ext (EB.tr (E2.tr (E12.tr E32))))) (lw_V q1253 q1255 qs26 q123 q1256) hy_X1_well rfl rfl (Nat.le_of_ble_eq_true rfl) (Nat.le_of_ble_eq_true rfl) (Nat.le_of_ble_eq_true rfl) (kkI (fun r100 m100 E100 hw => ?_))
        have hw := hw E100
        exact x_iret HE hr dX1_told_103 hw
      have hw := hw.2
      by_cases s40_2 : x2 = 2
      · have hw := hw.1 s40_2
        refine x_tabIn HE 104 dX1_told_40 2 s40_2 (by decide) rfl (by decide) ?_
        refine x_aload_n HE 0 dX1_told_104 rfl rfl ?_
        refine x_aload_n HE 3 dX1_told_105 rfl rfl ?_
        refine x_gI HE dX1_told_106 fd_X17_3 q988 (Or.inl rfl) (Lay_X17.tag v35) rfl ?_
        refine x_callV HE dX1_told_109 rfl (fun l => k_X1_well (f0.ext (EB.tr (E2.tr (E12.tr E32)))) l hw) (As := [iV (hF m32 r32 3)]) (rest := []) rfl xc11 (Lay_X1.tag (f0.ext (EB.tr (E2.tr (E12.tr E32))))) (lw_V q1253 q1255 qs26 q123 q1256) hy_X1_well rfl rfl (Nat.le_of_ble_eq_true rfl) (Nat.le_of_ble_eq_true rfl) (Nat.le_of_ble_eq_true rfl) (kkI (fun r109 m109 E109 hw => ?_))
        have hw := hw E109
        exact x_iret HE hr dX1_told_112 hw
      have hw := hw.2
      by_cases s40_3 : x2 = 3
      · have hw := hw.1 s40_3
        refine x_tabIn HE 113 dX1_told_40 3 s40_3 (by decide) rfl (by decide) ?_
        refine x_aload_n HE 0 dX1_told_113 rfl rfl ?_
        refine x_aload_n HE 3 dX1_told_114 rfl rfl ?_
        refine x_gI HE dX1_told_115 fd_X17_4 q991 (Or.inl rfl) (Lay_X17.tag v35) rfl ?_
        refine x_callV HE dX1_told_118 rfl (fun l => k_X1_well (f0.ext (EB.tr (E2.tr (E12.tr E32)))) l hw) (As := [iV (hF m32 r32 4)]) (rest := []) rfl xc11 (Lay_X1.tag (f0.ext (EB.tr (E2.tr (E12.tr E32))))) (lw_V q1253 q1255 qs26 q123 q1256) hy_X1_well rfl rfl (Nat.le_of_ble_eq_true rfl) (Nat.le_of_ble_eq_true rfl) (Nat.le_of_ble_eq_true rfl) (kkI (fun r118 m118 E118 hw => ?_))
        have hw := hw E118
        exact x_iret HE hr dX1_told_121 hw
      have hw := hw.2
      by_cases s40_4 : x2 = 4
      · have hw := hw.1 s40_4
        refine x_tabIn HE 122 dX1_told_40 4 s40_4 (by decide) rfl (by decide) ?_
        refine x_aload_n HE 0 dX1_told_122 rfl rfl ?_
        refine x_aload_n HE 3 dX1_told_123 rfl rfl ?_
        refine x_gI HE dX1_told_124 fd_X17_5 q994 (Or.inl rfl) (Lay_X17.tag v35) rfl ?_
        refine x_callV HE dX1_told_127 rfl (fun l => k_X1_well (f0.ext (EB.tr (E2.tr (E12.tr E32)))) l hw) (As := [iV (hF m32 r32 5)]) (rest := []) rfl xc11 (Lay_X1.tag (f0.ext (EB.tr (E2.tr (E12.tr E32))))) (lw_V q1253 q1255 qs26 q123 q1256) hy_X1_well rfl rfl (Nat.le_of_ble_eq_true rfl) (Nat.le_of_ble_eq_true rfl) (Nat.le_of_ble_eq_true rfl) (kkI (fun r127 m127 E127 hw => ?_))
        have hw := hw E127
        exact x_iret HE hr dX1_told_130 hw
      have hw := hw.2
      by_cases s40_5 : x2 = 5
      · have hw := hw.1 s40_5
        refine x_tabIn HE 131 dX1_told_40 5 s40_5 (by decide) rfl (by decide) ?_
        refine x_aload_n HE 0 dX1_told_131 rfl rfl ?_
        refine x_aload_n HE 3 dX1_told_132 rfl rfl ?_
        refine x_gI HE dX1_told_133 fd_X17_6 q997 (Or.inl rfl) (Lay_X17.tag v35) rfl ?_
        refine x_callV HE dX1_told_136 rfl (fun l => k_X1_well (f0.ext (EB.tr (E2.tr (E12.tr E32)))) l hw) (As := [iV (hF m32 r32 6)]) (rest := []) rfl xc11 (Lay_X1.tag (f0.ext (EB.tr (E2.tr (E12.tr E32))))) (lw_V q1253 q1255 qs26 q123 q1256) hy_X1_well rfl rfl (Nat.le_of_ble_eq_true rfl) (Nat.le_of_ble_eq_true rfl) (Nat.le_of_ble_eq_true rfl) (kkI (fun r136 m136 E136 hw => ?_))
        have hw := hw E136
        exact x_iret HE hr dX1_told_139 hw
      have hw := hw.2
      have hw := hw ⟨s40_0, s40_1, s40_2, s40_3, s40_4, s40_5⟩
      refine x_tabOut HE 140 dX1_told_40 (tabE (tabS (b := 6) (tabS (b := 5) (tabS (b := 4) (tabS (b := 3) (tabS (b := 2) (tabS (b := 1) (Int.lt_or_le x2 0) (by decide) s40_0) (by decide) s40_1) (by decide) s40_2) (by decide) s40_3) (by decide) s40_4) (by decide) s40_5) (by decide)) (by decide) ?_
      refine x_aload_n HE 0 dX1_told_140 rfl rfl ?_
      refine x_aload_n HE 3 dX1_told_141 rfl rfl ?_
      refine x_gI HE dX1_told_142 fd_X17_7 q1001 (Or.inl rfl) (Lay_X17.tag v35) rfl ?_
      refine x_callV HE dX1_told_145 rfl (fun l => k_X1_well (f0.ext (EB.tr (E2.tr (E12.tr E32)))) l hw) (As := [iV (hF m32 r32 7)]) (rest := []) rfl xc11 (Lay_X1.tag (f0.ext (EB.tr (E2.tr (E12.tr E32))))) (lw_V q1253 q1255 qs26 q123 q1256) hy_X1_well rfl rfl (Nat.le_of_ble_eq_true rfl) (Nat.le_of_ble_eq_true rfl) (Nat.le_of_ble_eq_true rfl) (kkI (fun r145 m145 E145 hw => ?_))
      have hw := hw E145
      exact x_iret HE hr dX1_told_148 hw
    · have hw := hw.2 c15
      exact w_X1_told_18 HE hr f0 hw
theorem k_X1_told {G : GT} {x0 x1 x2 : Int} {Q : Int → Hp → Prop} {h : Hp} (f0 : Lay_X1 h x0) (l : Launch) (hw : g_X1_told x0 x1 x2 Q h) : XM G l yX1_told cX1_told 4 (some .int) 3 64 [rV x0, iV x1, iV x2] (QI Q) h :=
  XM.of (by decide) (Nat.le_of_ble_eq_true rfl) (fun X HE hr hn => w_X1_told_0 HE hr f0 hw)
def g_X1_wants_b59 (x0 x1 x2 : Int) (Q : Int → Hp → Prop) (s0 : Int) (h : Hp) : Prop :=
  Q s0 h
theorem w_X1_wants_59 {G : GT} {X : ET} {h0 : Hp} {x0 x1 x2 : Int} (HE : XE G X cX1_wants 3 RX1 3 64 h0) (hr : XR X (some .int)) (f0 : Lay_X1 h0 x0) {Q : Int → Hp → Prop} {s0 : Int} {h : Hp} (hw : g_X1_wants_b59 x0 x1 x2 Q s0 h) : Wx G X h0 (QI Q) h 59 [some (rV x0), some (iV x1), some (iV x2)] [iV s0] := by
  refine Wx.start (fun EB => ?_)
  unfold g_X1_wants_b59 at hw
  exact x_iret HE hr dX1_wants_59 hw
def g_X1_wants_b54 (x0 x1 x2 : Int) (Q : Int → Hp → Prop) (h : Hp) : Prop :=
  g_X1_refused x0 1 (fun r56 m56 => Ext h m56 → (g_X1_wants_b59 x0 x1 x2 Q r56 m56)) h
theorem w_X1_wants_54 {G : GT} {X : ET} {h0 : Hp} {x0 x1 x2 : Int} (HE : XE G X cX1_wants 3 RX1 3 64 h0) (hr : XR X (some .int)) (f0 : Lay_X1 h0 x0) {Q : Int → Hp → Prop} {h : Hp} (hw : g_X1_wants_b54 x0 x1 x2 Q  h) : Wx G X h0 (QI Q) h 54 [some (rV x0), some (iV x1), some (iV x2)] [] := by
  refine Wx.start (fun EB => ?_)
  unfold g_X1_wants_b54 at hw
  refine x_aload_n HE 0 dX1_wants_54 rfl rfl ?_
  refine x_iconst HE dX1_wants_55 (by decide) ?_
  refine x_callV HE dX1_wants_56 rfl (fun l => k_X1_refused (f0.ext EB) l hw) (As := [iV 1]) (rest := []) rfl xc11 (Lay_X1.tag (f0.ext EB)) (lw_V q279 q281 qs0 q123 q282) hy_X1_refused rfl rfl (Nat.le_of_ble_eq_true rfl) (Nat.le_of_ble_eq_true rfl) (Nat.le_of_ble_eq_true rfl) (kkI (fun r56 m56 E56 hw => ?_))
  have hw := hw E56
  exact w_X1_wants_59 HE hr f0 hw
def g_X1_wants (x0 x1 x2 : Int) (Q : Int → Hp → Prop) (h : Hp) : Prop :=
  g_X1_isPerson x0 x1 (fun r2 m2 => Ext h m2 → (((r2 = 0) → (g_X1_wants_b54 x0 x1 x2 Q m2)) ∧ ((r2 ≠ 0) → ((Lay_X7 m2 (hF m2 x0 5)) ∧ (g_J2_size ((hF m2 x0 5) + 1) (fun r17 m17 => Ext m2 m17 → ((i32 (r17 - 1)) ∧ (g_X1_in x2 0 (r17 - 1) (fun r22 m22 => Ext m17 m22 → (((r22 = 0) → (g_X1_wants_b54 x0 x1 x2 Q m22)) ∧ ((r22 ≠ 0) → ((Lay_X7 m22 (hF m22 x0 5)) ∧ (g_J2_get ((hF m22 x0 5) + 3) x1 (fun r37 m37 => Ext m22 m37 → ((Lay_X17 m37 r37) ∧ (((0 : Int) ≤ x2 ∧ x2 < 5) ∧ (g_X1_well x0 (hA m37 (r37 + 1) x2) (fun r48 m48 => Ext m37 m48 → (g_X1_wants_b59 x0 x1 x2 Q r48 m48)) m37)))) m22))))) m17))) m2))))) h
theorem w_X1_wants_0 {G : GT} {X : ET} {h0 : Hp} {x0 x1 x2 : Int} (HE : XE G X cX1_wants 3 RX1 3 64 h0) (hr : XR X (some .int)) (f0 : Lay_X1 h0 x0) {Q : Int → Hp → Prop} {h : Hp} (hw : g_X1_wants x0 x1 x2 Q h) : Wx G X h0 (QI Q) h 0 [some (rV x0), some (iV x1), some (iV x2)] [] := by
  refine Wx.start (fun EB => ?_)
  unfold g_X1_wants at hw
  refine x_aload_n HE 0 dX1_wants_0 rfl rfl ?_
  refine x_iload_n HE 1 dX1_wants_1 rfl rfl ?_
  refine x_callV HE dX1_wants_2 rfl (fun l => k_X1_isPerson (f0.ext EB) l hw) (As := [iV x1]) (rest := []) rfl xc11 (Lay_X1.tag (f0.ext EB)) (lw_V q1269 q1271 qs27 q123 q1272) hy_X1_isPerson rfl rfl (Nat.le_of_ble_eq_true rfl) (Nat.le_of_ble_eq_true rfl) (Nat.le_of_ble_eq_true rfl) (kkI (fun r2 m2 E2 hw => ?_))
  have hw := hw E2
  refine x_if_eq HE 54 dX1_wants_5 (by decide) (fun c5 => ?_) (fun c5 => ?_)
  · have hw := hw.1 c5
    exact w_X1_wants_54 HE hr f0 hw
  · have hw := hw.2 c5
    refine x_iload_n HE 2 dX1_wants_8 rfl rfl ?_
    refine x_iconst HE dX1_wants_9 (by decide) ?_
    refine x_aload_n HE 0 dX1_wants_10 rfl rfl ?_
    refine x_gR HE dX1_wants_11 fd_X1_5 q227 (Or.inl rfl) (Lay_X1.tag (f0.ext (EB.tr E2))) rfl ?_
    obtain ⟨v14, hw⟩ := hw
    refine x_gR HE dX1_wants_14 fd_X7_3 q322 (Or.inl rfl) (Lay_X7.tag v14) (Lay_X7_3 v14).1 ?_
    refine x_callV HE dX1_wants_17 rfl (fun l => k_J2_size ((Lay_X7_3 v14).2) l hw) (As := []) (rest := [iV 0, iV x2]) rfl xc32 ((Lay_X7_3 v14).2) (lw_V q1252 q708 q709 q128 q710) hy_J2_size rfl rfl (Nat.le_of_ble_eq_true rfl) (Nat.le_of_ble_eq_true rfl) (Nat.le_of_ble_eq_true rfl) (kkI (fun r17 m17 E17 hw => ?_))
    have hw := hw E17
    refine x_iconst HE dX1_wants_20 (by decide) ?_
    obtain ⟨v21, hw⟩ := hw
    refine x_isub HE dX1_wants_21 v21 ?_
    refine x_callS HE dX1_wants_22 rfl (fun l => k_X1_in  l hw) (As := [iV x2, iV 0, iV (r17 - 1)]) (rest := []) rfl (lw_S q276 q277 q123 q278) hy_X1_in.2 rfl rfl (Nat.le_of_ble_eq_true rfl) (Nat.le_of_ble_eq_true rfl) (Nat.le_of_ble_eq_true rfl) (kkI (fun r22 m22 E22 hw => ?_))
    have hw := hw E22
    refine x_if_eq HE 54 dX1_wants_25 (by decide) (fun c25 => ?_) (fun c25 => ?_)
    · have hw := hw.1 c25
      exact w_X1_wants_54 HE hr f0 hw
    · have hw := hw.2 c25
      refine x_aload_n HE 0 dX1_wants_28 rfl rfl ?_
      refine x_aload_n HE 0 dX1_wants_29 rfl rfl ?_
      refine x_gR HE dX1_wants_30 fd_X1_5 q227 (Or.inl rfl) (Lay_X1.tag (f0.ext (EB.tr (E2.tr (E17.tr E22))))) rfl ?_
      obtain ⟨v33, hw⟩ := hw
      refine x_gR HE dX1_wants_33 fd_X7_5 q331 (Or.inl rfl) (Lay_X7.tag v33) (Lay_X7_5 v33).1 ?_
      refine x_iload_n HE 1 dX1_wants_36 rfl rfl ?_
      refine x_callV HE dX1_wants_37 rfl (fun l => k_J2_get ((Lay_X7_5 v33).2) l hw) (As := [iV x1]) (rest := [rV x0]) rfl xc32 ((Lay_X7_5 v33).2) (lw_V q1500 q736 q737 q128 q738) hy_J2_get rfl rfl (Nat.le_of_ble_eq_true rfl) (Nat.le_of_ble_eq_true rfl) (Nat.le_of_ble_eq_true rfl) (kkR (fun r37 m37 E37 hw => ?_))
      have hw := hw E37
      obtain ⟨v40, hw⟩ := hw
      refine x_castS HE dX1_wants_40 xc14 q1501 (Lay_X17.tag v40) ?_
      refine x_gR HE dX1_wants_43 fd_X17_2 q984 (Or.inl rfl) (Lay_X17.tag v40) (Lay_X17_2 v40).1 ?_
      refine x_iload_n HE 2 dX1_wants_46 rfl rfl ?_
      obtain ⟨i47, hw⟩ := hw
      refine x_iald HE dX1_wants_47 (t := 1) (by decide) ((Lay_X17_2 v40).2.1) (ix_of ((Lay_X17_2 v40).2.2) i47) rfl ?_
      refine x_callV HE dX1_wants_48 rfl (fun l => k_X1_well (f0.ext (EB.tr (E2.tr (E17.tr (E22.tr E37))))) l hw) (As := [iV (hA m37 (r37 + 1) x2)]) (rest := []) rfl xc11 (Lay_X1.tag (f0.ext (EB.tr (E2.tr (E17.tr (E22.tr E37)))))) (lw_V q1253 q1255 qs26 q123 q1256) hy_X1_well rfl rfl (Nat.le_of_ble_eq_true rfl) (Nat.le_of_ble_eq_true rfl) (Nat.le_of_ble_eq_true rfl) (kkI (fun r48 m48 E48 hw => ?_))
      have hw := hw E48
      refine x_goto HE 59 dX1_wants_51 (by decide) ?_
      exact w_X1_wants_59 HE hr f0 hw
theorem k_X1_wants {G : GT} {x0 x1 x2 : Int} {Q : Int → Hp → Prop} {h : Hp} (f0 : Lay_X1 h x0) (l : Launch) (hw : g_X1_wants x0 x1 x2 Q h) : XM G l yX1_wants cX1_wants 3 (some .int) 3 64 [rV x0, iV x1, iV x2] (QI Q) h :=
  XM.of (by decide) (Nat.le_of_ble_eq_true rfl) (fun X HE hr hn => w_X1_wants_0 HE hr f0 hw)
def g_X1_size (x0 x1 : Int) (Q : Int → Hp → Prop) (h : Hp) : Prop :=
  ((x1 ≠ 10) → (g_X1_in x1 0 9 (fun r15 m15 => Ext h m15 → (((r15 ≠ 0) → (((0 < (hF m15 x0 5)) → (((x1 = 0) → ((Lay_X7 m15 (hF m15 x0 5)) ∧ (Q (hF m15 (hF m15 x0 5) 0) m15))) ∧ ((x1 = 1) → ((Lay_X7 m15 (hF m15 x0 5)) ∧ (Q (hF m15 (hF m15 x0 5) 1) m15))) ∧ ((x1 = 2) → ((Lay_X7 m15 (hF m15 x0 5)) ∧ (g_J2_size ((hF m15 x0 5) + 1) (fun r107 m107 => Ext m15 m107 → (Q r107 m107)) m15))) ∧ ((x1 = 3) → ((Lay_X7 m15 (hF m15 x0 5)) ∧ (g_J2_size ((hF m15 x0 5) + 2) (fun r118 m118 => Ext m15 m118 → (Q r118 m118)) m15))) ∧ ((x1 = 4) → ((Lay_X7 m15 (hF m15 x0 5)) ∧ (g_J2_size ((hF m15 x0 5) + 3) (fun r129 m129 => Ext m15 m129 → (Q r129 m129)) m15))) ∧ ((x1 = 5) → ((Lay_X7 m15 (hF m15 x0 5)) ∧ (Q (hF m15 (hF m15 x0 5) 2) m15))) ∧ ((x1 = 6) → ((Lay_X7 m15 (hF m15 x0 5)) ∧ (g_J2_size ((hF m15 x0 5) + 4) (fun r148 m148 => Ext m15 m148 → (Q r148 m148)) m15))) ∧ ((x1 = 7) → ((Lay_X21 m15 (hF m15 x0 6)) ∧ (Q (hF m15 (hF m15 x0 6) 24) m15))) ∧ ((x1 = 8) → (g_J2_size (x0 + 4) (fun r164 m164 => Ext m15 m164 → (Q r164 m164)) m15)) ∧ ((x1 ≠ 0 ∧ x1 ≠ 1 ∧ x1 ≠ 2 ∧ x1 ≠ 3 ∧ x1 ≠ 4 ∧ x1 ≠ 5 ∧ x1 ≠ 6 ∧ x1 ≠ 7 ∧ x1 ≠ 8) → (g_J2_size (x0 + 5) (fun r172 m172 => Ext m15 m172 → (Q r172 m172)) m15)))) ∧ (((hF m15 x0 5) = 0) → (Q 0 m15)))) ∧ ((r15 = 0) → (Q (-1) m15)))) h)) ∧ ((x1 = 10) → (Q (hF h x0 1) h))
theorem w_X1_size_0 {G : GT} {X : ET} {h0 : Hp} {x0 x1 : Int} (HE : XE G X cX1_size 2 RX1 1 22 h0) (hr : XR X (some .int)) (f0 : Lay_X1 h0 x0) {Q : Int → Hp → Prop} {h : Hp} (hw : g_X1_size x0 x1 Q h) : Wx G X h0 (QI Q) h 0 [some (rV x0), some (iV x1)] [] := by
  refine Wx.start (fun EB => ?_)
  unfold g_X1_size at hw
  refine x_iload_n HE 1 dX1_size_0 rfl rfl ?_
  refine x_bipush HE dX1_size_1 (by decide) ?_
  refine x_ic_ne HE 11 dX1_size_3 (by decide) (fun c3 => ?_) (fun c3 => ?_)
  · have hw := hw.1 c3
    refine x_iload_n HE 1 dX1_size_11 rfl rfl ?_
    refine x_iconst HE dX1_size_12 (by decide) ?_
    refine x_bipush HE dX1_size_13 (by decide) ?_
    refine x_callS HE dX1_size_15 rfl (fun l => k_X1_in  l hw) (As := [iV x1, iV 0, iV 9]) (rest := []) rfl (lw_S q276 q277 q123 q278) hy_X1_in.2 rfl rfl (Nat.le_of_ble_eq_true rfl) (Nat.le_of_ble_eq_true rfl) (Nat.le_of_ble_eq_true rfl) (kkI (fun r15 m15 E15 hw => ?_))
    have hw := hw E15
    refine x_if_ne HE 23 dX1_size_18 (by decide) (fun c18 => ?_) (fun c18 => ?_)
    · have hw := hw.1 c18
      refine x_aload_n HE 0 dX1_size_23 rfl rfl ?_
      refine x_gR HE dX1_size_24 fd_X1_5 q227 (Or.inl rfl) (Lay_X1.tag (f0.ext (EB.tr E15))) rfl ?_
      refine x_ifnonnull HE 32 dX1_size_27 (by decide) (fun c27 => ?_) (fun c27 => ?_)
      · have hw := hw.1 c27
        refine x_iload_n HE 1 dX1_size_32 rfl rfl ?_
        by_cases s33_0 : x1 = 0
        · have hw := hw.1 s33_0
          refine x_tabIn HE 84 dX1_size_33 0 s33_0 (by decide) rfl (by decide) ?_
          refine x_aload_n HE 0 dX1_size_84 rfl rfl ?_
          refine x_gR HE dX1_size_85 fd_X1_5 q227 (Or.inl rfl) (Lay_X1.tag (f0.ext (EB.tr E15))) rfl ?_
          obtain ⟨v88, hw⟩ := hw
          refine x_gI HE dX1_size_88 fd_X7_0 q314 (Or.inl rfl) (Lay_X7.tag v88) rfl ?_
          exact x_iret HE hr dX1_size_91 hw
        have hw := hw.2
        by_cases s33_1 : x1 = 1
        · have hw := hw.1 s33_1
          refine x_tabIn HE 92 dX1_size_33 1 s33_1 (by decide) rfl (by decide) ?_
          refine x_aload_n HE 0 dX1_size_92 rfl rfl ?_
          refine x_gR HE dX1_size_93 fd_X1_5 q227 (Or.inl rfl) (Lay_X1.tag (f0.ext (EB.tr E15))) rfl ?_
          obtain ⟨v96, hw⟩ := hw
          refine x_gI HE dX1_size_96 fd_X7_1 q317 (Or.inl rfl) (Lay_X7.tag v96) rfl ?_
          exact x_iret HE hr dX1_size_99 hw
        have hw := hw.2
        by_cases s33_2 : x1 = 2
        · have hw := hw.1 s33_2
          refine x_tabIn HE 100 dX1_size_33 2 s33_2 (by decide) rfl (by decide) ?_
          refine x_aload_n HE 0 dX1_size_100 rfl rfl ?_
          refine x_gR HE dX1_size_101 fd_X1_5 q227 (Or.inl rfl) (Lay_X1.tag (f0.ext (EB.tr E15))) rfl ?_
          obtain ⟨v104, hw⟩ := hw
          refine x_gR HE dX1_size_104 fd_X7_3 q322 (Or.inl rfl) (Lay_X7.tag v104) (Lay_X7_3 v104).1 ?_
          refine x_callV HE dX1_size_107 rfl (fun l => k_J2_size ((Lay_X7_3 v104).2) l hw) (As := []) (rest := []) rfl xc32 ((Lay_X7_3 v104).2) (lw_V q1252 q708 q709 q128 q710) hy_J2_size rfl rfl (Nat.le_of_ble_eq_true rfl) (Nat.le_of_ble_eq_true rfl) (Nat.le_of_ble_eq_true rfl) (kkI (fun r107 m107 E107 hw => ?_))
          have hw := hw E107
          exact x_iret HE hr dX1_size_110 hw
        have hw := hw.2
        by_cases s33_3 : x1 = 3
        · have hw := hw.1 s33_3
          refine x_tabIn HE 111 dX1_size_33 3 s33_3 (by decide) rfl (by decide) ?_
          refine x_aload_n HE 0 dX1_size_111 rfl rfl ?_
          refine x_gR HE dX1_size_112 fd_X1_5 q227 (Or.inl rfl) (Lay_X1.tag (f0.ext (EB.tr E15))) rfl ?_
          obtain ⟨v115, hw⟩ := hw
          refine x_gR HE dX1_size_115 fd_X7_4 q326 (Or.inl rfl) (Lay_X7.tag v115) (Lay_X7_4 v115).1 ?_
          refine x_callV HE dX1_size_118 rfl (fun l => k_J2_size ((Lay_X7_4 v115).2) l hw) (As := []) (rest := []) rfl xc32 ((Lay_X7_4 v115).2) (lw_V q1252 q708 q709 q128 q710) hy_J2_size rfl rfl (Nat.le_of_ble_eq_true rfl) (Nat.le_of_ble_eq_true rfl) (Nat.le_of_ble_eq_true rfl) (kkI (fun r118 m118 E118 hw => ?_))
          have hw := hw E118
          exact x_iret HE hr dX1_size_121 hw
        have hw := hw.2
        by_cases s33_4 : x1 = 4
        · have hw := hw.1 s33_4
          refine x_tabIn HE 122 dX1_size_33 4 s33_4 (by decide) rfl (by decide) ?_
          refine x_aload_n HE 0 dX1_size_122 rfl rfl ?_
          refine x_gR HE dX1_size_123 fd_X1_5 q227 (Or.inl rfl) (Lay_X1.tag (f0.ext (EB.tr E15))) rfl ?_
          obtain ⟨v126, hw⟩ := hw
          refine x_gR HE dX1_size_126 fd_X7_5 q331 (Or.inl rfl) (Lay_X7.tag v126) (Lay_X7_5 v126).1 ?_
          refine x_callV HE dX1_size_129 rfl (fun l => k_J2_size ((Lay_X7_5 v126).2) l hw) (As := []) (rest := []) rfl xc32 ((Lay_X7_5 v126).2) (lw_V q1252 q708 q709 q128 q710) hy_J2_size rfl rfl (Nat.le_of_ble_eq_true rfl) (Nat.le_of_ble_eq_true rfl) (Nat.le_of_ble_eq_true rfl) (kkI (fun r129 m129 E129 hw => ?_))
          have hw := hw E129
          exact x_iret HE hr dX1_size_132 hw
        have hw := hw.2
        by_cases s33_5 : x1 = 5
        · have hw := hw.1 s33_5
          refine x_tabIn HE 133 dX1_size_33 5 s33_5 (by decide) rfl (by decide) ?_
          refine x_aload_n HE 0 dX1_size_133 rfl rfl ?_
          refine x_gR HE dX1_size_134 fd_X1_5 q227 (Or.inl rfl) (Lay_X1.tag (f0.ext (EB.tr E15))) rfl ?_
          obtain ⟨v137, hw⟩ := hw
          refine x_gI HE dX1_size_137 fd_X7_2 q319 (Or.inl rfl) (Lay_X7.tag v137) rfl ?_
          exact x_iret HE hr dX1_size_140 hw
        have hw := hw.2
        by_cases s33_6 : x1 = 6
        · have hw := hw.1 s33_6
          refine x_tabIn HE 141 dX1_size_33 6 s33_6 (by decide) rfl (by decide) ?_
          refine x_aload_n HE 0 dX1_size_141 rfl rfl ?_
          refine x_gR HE dX1_size_142 fd_X1_5 q227 (Or.inl rfl) (Lay_X1.tag (f0.ext (EB.tr E15))) rfl ?_
          obtain ⟨v145, hw⟩ := hw
          refine x_gR HE dX1_size_145 fd_X7_6 q335 (Or.inl rfl) (Lay_X7.tag v145) (Lay_X7_6 v145).1 ?_
          refine x_callV HE dX1_size_148 rfl (fun l => k_J2_size ((Lay_X7_6 v145).2) l hw) (As := []) (rest := []) rfl xc32 ((Lay_X7_6 v145).2) (lw_V q1252 q708 q709 q128 q710) hy_J2_size rfl rfl (Nat.le_of_ble_eq_true rfl) (Nat.le_of_ble_eq_true rfl) (Nat.le_of_ble_eq_true rfl) (kkI (fun r148 m148 E148 hw => ?_))
          have hw := hw E148
          exact x_iret HE hr dX1_size_151 hw
        have hw := hw.2
        by_cases s33_7 : x1 = 7
        · have hw := hw.1 s33_7
          refine x_tabIn HE 152 dX1_size_33 7 s33_7 (by decide) rfl (by decide) ?_
          refine x_aload_n HE 0 dX1_size_152 rfl rfl ?_
          refine x_gR HE dX1_size_153 fd_X1_6 q228 (Or.inl rfl) (Lay_X1.tag (f0.ext (EB.tr E15))) rfl ?_
          obtain ⟨v156, hw⟩ := hw
          refine x_gI HE dX1_size_156 fd_X21_24 q1172 (Or.inl rfl) (Lay_X21.tag v156) rfl ?_
          exact x_iret HE hr dX1_size_159 hw
        have hw := hw.2
        by_cases s33_8 : x1 = 8
        · have hw := hw.1 s33_8
          refine x_tabIn HE 160 dX1_size_33 8 s33_8 (by decide) rfl (by decide) ?_
          refine x_aload_n HE 0 dX1_size_160 rfl rfl ?_
          refine x_gR HE dX1_size_161 fd_X1_13 q235 (Or.inl rfl) (Lay_X1.tag (f0.ext (EB.tr E15))) (Lay_X1_13 (f0.ext (EB.tr E15))).1 ?_
          refine x_callV HE dX1_size_164 rfl (fun l => k_J2_size ((Lay_X1_13 (f0.ext (EB.tr E15))).2) l hw) (As := []) (rest := []) rfl xc32 ((Lay_X1_13 (f0.ext (EB.tr E15))).2) (lw_V q1252 q708 q709 q128 q710) hy_J2_size rfl rfl (Nat.le_of_ble_eq_true rfl) (Nat.le_of_ble_eq_true rfl) (Nat.le_of_ble_eq_true rfl) (kkI (fun r164 m164 E164 hw => ?_))
          have hw := hw E164
          exact x_iret HE hr dX1_size_167 hw
        have hw := hw.2
        have hw := hw ⟨s33_0, s33_1, s33_2, s33_3, s33_4, s33_5, s33_6, s33_7, s33_8⟩
        refine x_tabOut HE 168 dX1_size_33 (tabE (tabS (b := 9) (tabS (b := 8) (tabS (b := 7) (tabS (b := 6) (tabS (b := 5) (tabS (b := 4) (tabS (b := 3) (tabS (b := 2) (tabS (b := 1) (Int.lt_or_le x1 0) (by decide) s33_0) (by decide) s33_1) (by decide) s33_2) (by decide) s33_3) (by decide) s33_4) (by decide) s33_5) (by decide) s33_6) (by decide) s33_7) (by decide) s33_8) (by decide)) (by decide) ?_
        refine x_aload_n HE 0 dX1_size_168 rfl rfl ?_
        refine x_gR HE dX1_size_169 fd_X1_14 q236 (Or.inl rfl) (Lay_X1.tag (f0.ext (EB.tr E15))) (Lay_X1_14 (f0.ext (EB.tr E15))).1 ?_
        refine x_callV HE dX1_size_172 rfl (fun l => k_J2_size ((Lay_X1_14 (f0.ext (EB.tr E15))).2) l hw) (As := []) (rest := []) rfl xc32 ((Lay_X1_14 (f0.ext (EB.tr E15))).2) (lw_V q1252 q708 q709 q128 q710) hy_J2_size rfl rfl (Nat.le_of_ble_eq_true rfl) (Nat.le_of_ble_eq_true rfl) (Nat.le_of_ble_eq_true rfl) (kkI (fun r172 m172 E172 hw => ?_))
        have hw := hw E172
        exact x_iret HE hr dX1_size_175 hw
      · have hw := hw.2 c27
        refine x_iconst HE dX1_size_30 (by decide) ?_
        exact x_iret HE hr dX1_size_31 hw
    · have hw := hw.2 c18
      refine x_iconst HE dX1_size_21 (by decide) ?_
      exact x_iret HE hr dX1_size_22 hw
  · have hw := hw.2 c3
    refine x_aload_n HE 0 dX1_size_6 rfl rfl ?_
    refine x_gI HE dX1_size_7 fd_X1_1 q223 (Or.inl rfl) (Lay_X1.tag (f0.ext EB)) rfl ?_
    exact x_iret HE hr dX1_size_10 hw
theorem k_X1_size {G : GT} {x0 x1 : Int} {Q : Int → Hp → Prop} {h : Hp} (f0 : Lay_X1 h x0) (l : Launch) (hw : g_X1_size x0 x1 Q h) : XM G l yX1_size cX1_size 2 (some .int) 1 22 [rV x0, iV x1] (QI Q) h :=
  XM.of (by decide) (Nat.le_of_ble_eq_true rfl) (fun X HE hr hn => w_X1_size_0 HE hr f0 hw)
def g_X1_trouble (x0 : Int) (Q : Int → Hp → Prop) (h : Hp) : Prop :=
  Q (hF h x0 4) h
theorem w_X1_trouble_0 {G : GT} {X : ET} {h0 : Hp} {x0 : Int} (HE : XE G X cX1_trouble 1 RX1 0 0 h0) (hr : XR X (some .int)) (f0 : Lay_X1 h0 x0) {Q : Int → Hp → Prop} {h : Hp} (hw : g_X1_trouble x0 Q h) : Wx G X h0 (QI Q) h 0 [some (rV x0)] [] := by
  refine Wx.start (fun EB => ?_)
  unfold g_X1_trouble at hw
  refine x_aload_n HE 0 dX1_trouble_0 rfl rfl ?_
  refine x_gI HE dX1_trouble_1 fd_X1_4 q226 (Or.inl rfl) (Lay_X1.tag (f0.ext EB)) rfl ?_
  exact x_iret HE hr dX1_trouble_4 hw
theorem k_X1_trouble {G : GT} {x0 : Int} {Q : Int → Hp → Prop} {h : Hp} (f0 : Lay_X1 h x0) (l : Launch) (hw : g_X1_trouble x0 Q h) : XM G l yX1_trouble cX1_trouble 1 (some .int) 0 0 [rV x0] (QI Q) h :=
  XM.of (by decide) (Nat.le_of_ble_eq_true rfl) (fun X HE hr hn => w_X1_trouble_0 HE hr f0 hw)
