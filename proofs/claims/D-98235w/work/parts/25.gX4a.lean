/-! written by tools/mkgen2.py -/
set_option maxRecDepth 100000
def g_X4_init (x0 : Int) (Q : Hp → Prop) (h : Hp) : Prop :=
  (capOK h 1000) ∧ (∀ (a8 : Int) (m8 : Hp), a8 = hN h → m8 = alloc h 1 1000 1000 → WFa h → ((hF m8 x0 1 = 0) ∧ (∀ m10 : Hp, m10 = setF m8 x0 1 a8 → (∀ m15 : Hp, m15 = setF m10 x0 10 (-1) → ((capOK m15 8) ∧ (∀ (a21 : Int) (m21 : Hp), a21 = hN m15 → m21 = alloc m15 1 8 8 → WFa m15 → ((hF m21 x0 12 = 0) ∧ (∀ m23 : Hp, m23 = setF m21 x0 12 a21 → ((capOK m23 347) ∧ (∀ (a30 : Int) (m30 : Hp), a30 = hN m23 → m30 = alloc m23 1 347 347 → WFa m23 → ((hF m30 x0 15 = 0) ∧ (∀ m32 : Hp, m32 = setF m30 x0 15 a30 → ((capOK m32 347) ∧ (∀ (a39 : Int) (m39 : Hp), a39 = hN m32 → m39 = alloc m32 1 347 347 → WFa m32 → ((hF m39 x0 16 = 0) ∧ (∀ m41 : Hp, m41 = setF m39 x0 16 a39 → ((capOK m41 108) ∧ (∀ (a47 : Int) (m47 : Hp), a47 = hN m41 → m47 = alloc m41 1 108 108 → WFa m41 → ((hF m47 x0 17 = 0) ∧ (∀ m49 : Hp, m49 = setF m47 x0 17 a47 → ((capOK m49 108) ∧ (∀ (a55 : Int) (m55 : Hp), a55 = hN m49 → m55 = alloc m49 1 108 108 → WFa m49 → ((hF m55 x0 18 = 0) ∧ (∀ m57 : Hp, m57 = setF m55 x0 18 a55 → ((capOK m57 1296) ∧ (∀ (a64 : Int) (m64 : Hp), a64 = hN m57 → m64 = alloc m57 1 1296 1296 → WFa m57 → ((hF m64 x0 19 = 0) ∧ (∀ m66 : Hp, m66 = setF m64 x0 19 a64 → ((capOK m66 324) ∧ (∀ (a73 : Int) (m73 : Hp), a73 = hN m66 → m73 = alloc m66 1 324 324 → WFa m66 → ((hF m73 x0 20 = 0) ∧ (∀ m75 : Hp, m75 = setF m73 x0 20 a73 → ((capOK m75 24) ∧ (∀ (a81 : Int) (m81 : Hp), a81 = hN m75 → m81 = alloc m75 1 24 24 → WFa m75 → ((hF m81 x0 23 = 0) ∧ (∀ m83 : Hp, m83 = setF m81 x0 23 a81 → ((capOK m83 70) ∧ (∀ (a89 : Int) (m89 : Hp), a89 = hN m83 → m89 = alloc m83 1 70 70 → WFa m83 → ((hF m89 x0 24 = 0) ∧ (∀ m91 : Hp, m91 = setF m89 x0 24 a89 → ((capOK m91 108) ∧ (∀ (a97 : Int) (m97 : Hp), a97 = hN m91 → m97 = alloc m91 1 108 108 → WFa m91 → ((hF m97 x0 29 = 0) ∧ (∀ m99 : Hp, m99 = setF m97 x0 29 a97 → ((capOK m99 10) ∧ (∀ (a105 : Int) (m105 : Hp), a105 = hN m99 → m105 = alloc m99 1 10 10 → WFa m99 → ((hF m105 x0 30 = 0) ∧ (∀ m107 : Hp, m107 = setF m105 x0 30 a105 → ((capOK m107 7) ∧ (∀ (a113 : Int) (m113 : Hp), a113 = hN m107 → m113 = alloc m107 1 7 7 → WFa m107 → ((hF m113 x0 31 = 0) ∧ (∀ m115 : Hp, m115 = setF m113 x0 31 a113 → ((capOK m115 7) ∧ (∀ (a121 : Int) (m121 : Hp), a121 = hN m115 → m121 = alloc m115 1 7 7 → WFa m115 → ((hF m121 x0 32 = 0) ∧ (∀ m123 : Hp, m123 = setF m121 x0 32 a121 → ((capOK m123 100) ∧ (∀ (a129 : Int) (m129 : Hp), a129 = hN m123 → m129 = alloc m123 3 100 100 → WFa m123 → ((hF m129 x0 34 = 0) ∧ (∀ m131 : Hp, m131 = setF m129 x0 34 a129 → (Q m131)))))))))))))))))))))))))))))))))))))))))))))))))))))))))))))
theorem w_X4_init_0 {G : GT} {X : ET} {h0 : Hp} {x0 : Int} (HE : XE G X cX4_init 1 RX4 1 20 h0) (hr : XR X none) (hn : XN X "<init>") (f0 : hT h0 x0 = 10) {Q : Hp → Prop} {h : Hp} (hw : g_X4_init x0 Q h) : Wx G X h0 (QV Q) h 0 [some (rV x0)] [] := by
  refine Wx.start (fun EB => ?_)
  unfold g_X4_init at hw
  refine x_aload_n HE 0 dX4_init_0 rfl rfl ?_
  refine Wx.wf (fun wf1 => ?_)
  refine x_objInit HE dX4_init_1 rfl q1836 q170 q171 (tag_pos wf1 (EB.tag f0 (by decide)) (by decide)) (Nat.le_of_ble_eq_true rfl) (Nat.le_of_ble_eq_true rfl) (Nat.le_of_ble_eq_true rfl) ?_
  refine x_aload_n HE 0 dX4_init_4 rfl rfl ?_
  refine x_sipush HE dX4_init_5 (by decide) ?_
  obtain ⟨v8, hw⟩ := hw
  refine x_newIN HE dX4_init_8 q1019 (by decide) v8 (fun a8 m8 ea8 em8 E8 w8 => ?_)
  have hw := hw a8 m8 ea8 em8 w8
  have t8 := alloc_tag ea8 em8
  have l8 := alloc_len ea8 em8
  obtain ⟨z10, hw⟩ := hw
  refine x_pR HE dX4_init_10 fd_X4_1 q1838 (Or.inl rfl) (Or.inr ⟨rfl, hn, rfl⟩) (nf_arr _ _) ((EB.tr E8).tag f0 (by decide)) (nro (by decide)) (Or.inr z10) (fun m10 em10 E10 => ?_)
  have hw := hw m10 em10
  refine x_aload_n HE 0 dX4_init_13 rfl rfl ?_
  refine x_iconst HE dX4_init_14 (by decide) ?_
  refine x_pI HE dX4_init_15 fd_X4_10 q1847 (Or.inl rfl) (Or.inl rfl) (nf_int _) ((EB.tr (E8.tr E10)).tag f0 (by decide)) (nro (by decide)) (Or.inl nf_X4_10) (fun m15 em15 E15 => ?_)
  have hw := hw m15 em15
  refine x_aload_n HE 0 dX4_init_18 rfl rfl ?_
  refine x_bipush HE dX4_init_19 (by decide) ?_
  obtain ⟨v21, hw⟩ := hw
  refine x_newIN HE dX4_init_21 q1019 (by decide) v21 (fun a21 m21 ea21 em21 E21 w21 => ?_)
  have hw := hw a21 m21 ea21 em21 w21
  have t21 := alloc_tag ea21 em21
  have l21 := alloc_len ea21 em21
  obtain ⟨z23, hw⟩ := hw
  refine x_pR HE dX4_init_23 fd_X4_12 q1849 (Or.inl rfl) (Or.inr ⟨rfl, hn, rfl⟩) (nf_arr _ _) ((EB.tr (E8.tr (E10.tr (E15.tr E21)))).tag f0 (by decide)) (nro (by decide)) (Or.inr z23) (fun m23 em23 E23 => ?_)
  have hw := hw m23 em23
  refine x_aload_n HE 0 dX4_init_26 rfl rfl ?_
  refine x_sipush HE dX4_init_27 (by decide) ?_
  obtain ⟨v30, hw⟩ := hw
  refine x_newIN HE dX4_init_30 q1019 (by decide) v30 (fun a30 m30 ea30 em30 E30 w30 => ?_)
  have hw := hw a30 m30 ea30 em30 w30
  have t30 := alloc_tag ea30 em30
  have l30 := alloc_len ea30 em30
  obtain ⟨z32, hw⟩ := hw
  refine x_pR HE dX4_init_32 fd_X4_15 q1852 (Or.inl rfl) (Or.inr ⟨rfl, hn, rfl⟩) (nf_arr _ _) ((EB.tr (E8.tr (E10.tr (E15.tr (E21.tr (E23.tr E30)))))).tag f0 (by decide)) (nro (by decide)) (Or.inr z32) (fun m32 em32 E32 => ?_)
  have hw := hw m32 em32
  refine x_aload_n HE 0 dX4_init_35 rfl rfl ?_
  refine x_sipush HE dX4_init_36 (by decide) ?_
  obtain ⟨v39, hw⟩ := hw
  refine x_newIN HE dX4_init_39 q1019 (by decide) v39 (fun a39 m39 ea39 em39 E39 w39 => ?_)
  have hw := hw a39 m39 ea39 em39 w39
  have t39 := alloc_tag ea39 em39
  have l39 := alloc_len ea39 em39
  obtain ⟨z41, hw⟩ := hw
  refine x_pR HE dX4_init_41 fd_X4_16 q1853 (Or.inl rfl) (Or.inr ⟨rfl, hn, rfl⟩) (nf_arr _ _) ((EB.tr (E8.tr (E10.tr (E15.tr (E21.tr (E23.tr (E30.tr (E32.tr E39)))))))).tag f0 (by decide)) (nro (by decide)) (Or.inr z41) (fun m41 em41 E41 => ?_)
  have hw := hw m41 em41
  refine x_aload_n HE 0 dX4_init_44 rfl rfl ?_
  refine x_bipush HE dX4_init_45 (by decide) ?_
  obtain ⟨v47, hw⟩ := hw
  refine x_newIN HE dX4_init_47 q1019 (by decide) v47 (fun a47 m47 ea47 em47 E47 w47 => ?_)
  have hw := hw a47 m47 ea47 em47 w47
  have t47 := alloc_tag ea47 em47
  have l47 := alloc_len ea47 em47
  obtain ⟨z49, hw⟩ := hw
  refine x_pR HE dX4_init_49 fd_X4_17 q1854 (Or.inl rfl) (Or.inr ⟨rfl, hn, rfl⟩) (nf_arr _ _) ((EB.tr (E8.tr (E10.tr (E15.tr (E21.tr (E23.tr (E30.tr (E32.tr (E39.tr (E41.tr E47)))))))))).tag f0 (by decide)) (nro (by decide)) (Or.inr z49) (fun m49 em49 E49 => ?_)
  have hw := hw m49 em49
  refine x_aload_n HE 0 dX4_init_52 rfl rfl ?_
  refine x_bipush HE dX4_init_53 (by decide) ?_
  obtain ⟨v55, hw⟩ := hw
  refine x_newIN HE dX4_init_55 q1019 (by decide) v55 (fun a55 m55 ea55 em55 E55 w55 => ?_)
  have hw := hw a55 m55 ea55 em55 w55
  have t55 := alloc_tag ea55 em55
  have l55 := alloc_len ea55 em55
  obtain ⟨z57, hw⟩ := hw
  refine x_pR HE dX4_init_57 fd_X4_18 q1855 (Or.inl rfl) (Or.inr ⟨rfl, hn, rfl⟩) (nf_arr _ _) ((EB.tr (E8.tr (E10.tr (E15.tr (E21.tr (E23.tr (E30.tr (E32.tr (E39.tr (E41.tr (E47.tr (E49.tr E55)))))))))))).tag f0 (by decide)) (nro (by decide)) (Or.inr z57) (fun m57 em57 E57 => ?_)
  have hw := hw m57 em57
  refine x_aload_n HE 0 dX4_init_60 rfl rfl ?_
  refine x_sipush HE dX4_init_61 (by decide) ?_
  obtain ⟨v64, hw⟩ := hw
  refine x_newIN HE dX4_init_64 q1019 (by decide) v64 (fun a64 m64 ea64 em64 E64 w64 => ?_)
  have hw := hw a64 m64 ea64 em64 w64
  have t64 := alloc_tag ea64 em64
  have l64 := alloc_len ea64 em64
  obtain ⟨z66, hw⟩ := hw
  refine x_pR HE dX4_init_66 fd_X4_19 q1856 (Or.inl rfl) (Or.inr ⟨rfl, hn, rfl⟩) (nf_arr _ _) ((EB.tr (E8.tr (E10.tr (E15.tr (E21.tr (E23.tr (E30.tr (E32.tr (E39.tr (E41.tr (E47.tr (E49.tr (E55.tr (E57.tr E64)))))))))))))).tag f0 (by decide)) (nro (by decide)) (Or.inr z66) (fun m66 em66 E66 => ?_)
  have hw := hw m66 em66
  refine x_aload_n HE 0 dX4_init_69 rfl rfl ?_
  refine x_sipush HE dX4_init_70 (by decide) ?_
  obtain ⟨v73, hw⟩ := hw
  refine x_newIN HE dX4_init_73 q1019 (by decide) v73 (fun a73 m73 ea73 em73 E73 w73 => ?_)
  have hw := hw a73 m73 ea73 em73 w73
  have t73 := alloc_tag ea73 em73
  have l73 := alloc_len ea73 em73
  obtain ⟨z75, hw⟩ := hw
  refine x_pR HE dX4_init_75 fd_X4_20 q1857 (Or.inl rfl) (Or.inr ⟨rfl, hn, rfl⟩) (nf_arr _ _) ((EB.tr (E8.tr (E10.tr (E15.tr (E21.tr (E23.tr (E30.tr (E32.tr (E39.tr (E41.tr (E47.tr (E49.tr (E55.tr (E57.tr (E64.tr (E66.tr E73)))))))))))))))).tag f0 (by decide)) (nro (by decide)) (Or.inr z75) (fun m75 em75 E75 => ?_)
  have hw := hw m75 em75
  refine x_aload_n HE 0 dX4_init_78 rfl rfl ?_
  refine x_bipush HE dX4_init_79 (by decide) ?_
  obtain ⟨v81, hw⟩ := hw
  refine x_newIN HE dX4_init_81 q1019 (by decide) v81 (fun a81 m81 ea81 em81 E81 w81 => ?_)
  have hw := hw a81 m81 ea81 em81 w81
  have t81 := alloc_tag ea81 em81
  have l81 := alloc_len ea81 em81
  obtain ⟨z83, hw⟩ := hw
  refine x_pR HE dX4_init_83 fd_X4_23 q1860 (Or.inl rfl) (Or.inr ⟨rfl, hn, rfl⟩) (nf_arr _ _) ((EB.tr (E8.tr (E10.tr (E15.tr (E21.tr (E23.tr (E30.tr (E32.tr (E39.tr (E41.tr (E47.tr (E49.tr (E55.tr (E57.tr (E64.tr (E66.tr (E73.tr (E75.tr E81)))))))))))))))))).tag f0 (by decide)) (nro (by decide)) (Or.inr z83) (fun m83 em83 E83 => ?_)
  have hw := hw m83 em83
  refine x_aload_n HE 0 dX4_init_86 rfl rfl ?_
  refine x_bipush HE dX4_init_87 (by decide) ?_
  obtain ⟨v89, hw⟩ := hw
  refine x_newIN HE dX4_init_89 q1019 (by decide) v89 (fun a89 m89 ea89 em89 E89 w89 => ?_)
  have hw := hw a89 m89 ea89 em89 w89
  have t89 := alloc_tag ea89 em89
  have l89 := alloc_len ea89 em89
  obtain ⟨z91, hw⟩ := hw
  refine x_pR HE dX4_init_91 fd_X4_24 q1861 (Or.inl rfl) (Or.inr ⟨rfl, hn, rfl⟩) (nf_arr _ _) ((EB.tr (E8.tr (E10.tr (E15.tr (E21.tr (E23.tr (E30.tr (E32.tr (E39.tr (E41.tr (E47.tr (E49.tr (E55.tr (E57.tr (E64.tr (E66.tr (E73.tr (E75.tr (E81.tr (E83.tr E89)))))))))))))))))))).tag f0 (by decide)) (nro (by decide)) (Or.inr z91) (fun m91 em91 E91 => ?_)
  have hw := hw m91 em91
  refine x_aload_n HE 0 dX4_init_94 rfl rfl ?_
  refine x_bipush HE dX4_init_95 (by decide) ?_
  obtain ⟨v97, hw⟩ := hw
  refine x_newIN HE dX4_init_97 q1019 (by decide) v97 (fun a97 m97 ea97 em97 E97 w97 => ?_)
  have hw := hw a97 m97 ea97 em97 w97
  have t97 := alloc_tag ea97 em97
  have l97 := alloc_len ea97 em97
  obtain ⟨z99, hw⟩ := hw
  refine x_pR HE dX4_init_99 fd_X4_29 q1866 (Or.inl rfl) (Or.inr ⟨rfl, hn, rfl⟩) (nf_arr _ _) ((EB.tr (E8.tr (E10.tr (E15.tr (E21.tr (E23.tr (E30.tr (E32.tr (E39.tr (E41.tr (E47.tr (E49.tr (E55.tr (E57.tr (E64.tr (E66.tr (E73.tr (E75.tr (E81.tr (E83.tr (E89.tr (E91.tr E97)))))))))))))))))))))).tag f0 (by decide)) (nro (by decide)) (Or.inr z99) (fun m99 em99 E99 => ?_)
  have hw := hw m99 em99
  refine x_aload_n HE 0 dX4_init_102 rfl rfl ?_
  refine x_bipush HE dX4_init_103 (by decide) ?_
  obtain ⟨v105, hw⟩ := hw
  refine x_newIN HE dX4_init_105 q1019 (by decide) v105 (fun a105 m105 ea105 em105 E105 w105 => ?_)
  have hw := hw a105 m105 ea105 em105 w105
  have t105 := alloc_tag ea105 em105
  have l105 := alloc_len ea105 em105
  obtain ⟨z107, hw⟩ := hw
  refine x_pR HE dX4_init_107 fd_X4_30 q1867 (Or.inl rfl) (Or.inr ⟨rfl, hn, rfl⟩) (nf_arr _ _) ((EB.tr (E8.tr (E10.tr (E15.tr (E21.tr (E23.tr (E30.tr (E32.tr (E39.tr (E41.tr (E47.tr (E49.tr (E55.tr (E57.tr (E64.tr (E66.tr (E73.tr (E75.tr (E81.tr (E83.tr (E89.tr (E91.tr (E97.tr (E99.tr E105)))))))))))))))))))))))).tag f0 (by decide)) (nro (by decide)) (Or.inr z107) (fun m107 em107 E107 => ?_)
  have hw := hw m107 em107
  refine x_aload_n HE 0 dX4_init_110 rfl rfl ?_
  refine x_bipush HE dX4_init_111 (by decide) ?_
  obtain ⟨v113, hw⟩ := hw
  refine x_newIN HE dX4_init_113 q1019 (by decide) v113 (fun a113 m113 ea113 em113 E113 w113 => ?_)
  have hw := hw a113 m113 ea113 em113 w113
  have t113 := alloc_tag ea113 em113
  have l113 := alloc_len ea113 em113
  obtain ⟨z115, hw⟩ := hw
  refine x_pR HE dX4_init_115 fd_X4_31 q1868 (Or.inl rfl) (Or.inr ⟨rfl, hn, rfl⟩) (nf_arr _ _) ((EB.tr (E8.tr (E10.tr (E15.tr (E21.tr (E23.tr (E30.tr (E32.tr (E39.tr (E41.tr (E47.tr (E49.tr (E55.tr (E57.tr (E64.tr (E66.tr (E73.tr (E75.tr (E81.tr (E83.tr (E89.tr (E91.tr (E97.tr (E99.tr (E105.tr (E107.tr E113)))))))))))))))))))))))))).tag f0 (by decide)) (nro (by decide)) (Or.inr z115) (fun m115 em115 E115 => ?_)
  have hw := hw m115 em115
  refine x_aload_n HE 0 dX4_init_118 rfl rfl ?_
  refine x_bipush HE dX4_init_119 (by decide) ?_
  obtain ⟨v121, hw⟩ := hw
  refine x_newIN HE dX4_init_121 q1019 (by decide) v121 (fun a121 m121 ea121 em121 E121 w121 => ?_)
  have hw := hw a121 m121 ea121 em121 w121
  have t121 := alloc_tag ea121 em121
  have l121 := alloc_len ea121 em121
  obtain ⟨z123, hw⟩ := hw
  refine x_pR HE dX4_init_123 fd_X4_32 q1869 (Or.inl rfl) (Or.inr ⟨rfl, hn, rfl⟩) (nf_arr _ _) ((EB.tr (E8.tr (E10.tr (E15.tr (E21.tr (E23.tr (E30.tr (E32.tr (E39.tr (E41.tr (E47.tr (E49.tr (E55.tr (E57.tr (E64.tr (E66.tr (E73.tr (E75.tr (E81.tr (E83.tr (E89.tr (E91.tr (E97.tr (E99.tr (E105.tr (E107.tr (E113.tr (E115.tr E121)))))))))))))))))))))))))))).tag f0 (by decide)) (nro (by decide)) (Or.inr z123) (fun m123 em123 E123 => ?_)
  have hw := hw m123 em123
  refine x_aload_n HE 0 dX4_init_126 rfl rfl ?_
  refine x_bipush HE dX4_init_127 (by decide) ?_
  obtain ⟨v129, hw⟩ := hw
  refine x_newZN HE dX4_init_129 q1232 (by decide) v129 (fun a129 m129 ea129 em129 E129 w129 => ?_)
  have hw := hw a129 m129 ea129 em129 w129
  have t129 := alloc_tag ea129 em129
  have l129 := alloc_len ea129 em129
  obtain ⟨z131, hw⟩ := hw
  refine x_pR HE dX4_init_131 fd_X4_34 q1871 (Or.inl rfl) (Or.inr ⟨rfl, hn, rfl⟩) (nf_arr _ _) ((EB.tr (E8.tr (E10.tr (E15.tr (E21.tr (E23.tr (E30.tr (E32.tr (E39.tr (E41.tr (E47.tr (E49.tr (E55.tr (E57.tr (E64.tr (E66.tr (E73.tr (E75.tr (E81.tr (E83.tr (E89.tr (E91.tr (E97.tr (E99.tr (E105.tr (E107.tr (E113.tr (E115.tr (E121.tr (E123.tr E129)))))))))))))))))))))))))))))).tag f0 (by decide)) (nro (by decide)) (Or.inr z131) (fun m131 em131 E131 => ?_)
  have hw := hw m131 em131
  exact x_vret HE hr dX4_init_134 hw
theorem k_X4_init {G : GT} {x0 : Int} {Q : Hp → Prop} {h : Hp} (f0 : hT h x0 = 10) (l : Launch) (hw : g_X4_init x0 Q h) : XM G l yX4_init cX4_init 1 none 1 20 [rV x0] (QV Q) h :=
  XM.of (by decide) (Nat.le_of_ble_eq_true rfl) (fun X HE hr hn => w_X4_init_0 HE hr hn f0 hw)
def g_X4_thrown (x0 : Int) (Q : Int → Hp → Prop) (h : Hp) : Prop :=
  Q (hF h x0 0) h
theorem w_X4_thrown_0 {G : GT} {X : ET} {h0 : Hp} {x0 : Int} (HE : XE G X cX4_thrown 1 RX4 0 0 h0) (hr : XR X (some .int)) (f0 : Lay_X4 h0 x0) {Q : Int → Hp → Prop} {h : Hp} (hw : g_X4_thrown x0 Q h) : Wx G X h0 (QI Q) h 0 [some (rV x0)] [] := by
  refine Wx.start (fun EB => ?_)
  unfold g_X4_thrown at hw
  refine x_aload_n HE 0 dX4_thrown_0 rfl rfl ?_
  refine x_gI HE dX4_thrown_1 fd_X4_0 q1837 (Or.inl rfl) (Lay_X4.tag (f0.ext EB)) rfl ?_
  exact x_iret HE hr dX4_thrown_4 hw
theorem k_X4_thrown {G : GT} {x0 : Int} {Q : Int → Hp → Prop} {h : Hp} (f0 : Lay_X4 h x0) (l : Launch) (hw : g_X4_thrown x0 Q h) : XM G l yX4_thrown cX4_thrown 1 (some .int) 0 0 [rV x0] (QI Q) h :=
  XM.of (by decide) (Nat.le_of_ble_eq_true rfl) (fun X HE hr hn => w_X4_thrown_0 HE hr f0 hw)
def g_X4_feed_b120 (x0 x1 x2 x3 x4 x5 : Int) (Q : Int → Hp → Prop) (h : Hp) : Prop :=
  Q (hF h x0 2) h
theorem w_X4_feed_120 {G : GT} {X : ET} {h0 : Hp} {x0 x1 x2 x3 x4 x5 : Int} (HE : XE G X cX4_feed 8 RX4 0 0 h0) (hr : XR X (some .int)) (f0 : Lay_X4 h0 x0) {Q : Int → Hp → Prop} {h : Hp} (hw : g_X4_feed_b120 x0 x1 x2 x3 x4 x5 Q  h) : Wx G X h0 (QI Q) h 120 [some (rV x0), some (iV x1), some (iV x2), some (iV x3), some (iV x4), some (iV x5), none, none] [] := by
  refine Wx.start (fun EB => ?_)
  unfold g_X4_feed_b120 at hw
  refine x_aload_n HE 0 dX4_feed_120 rfl rfl ?_
  refine x_gI HE dX4_feed_121 fd_X4_2 q1839 (Or.inl rfl) (Lay_X4.tag (f0.ext EB)) rfl ?_
  exact x_iret HE hr dX4_feed_124 hw
def g_X4_feed_b76 (x0 x1 x2 x3 x4 x5 : Int) (Q : Int → Hp → Prop) (K23 : Int → Hp → Prop) (l6 s0 : Int) (h : Hp) : Prop :=
  ((0 : Int) ≤ l6 ∧ (0 : Int) < 4) ∧ ((i32 (8 * (l6 % 4))) ∧ ((i32 (24 - (8 * (l6 % 4)))) ∧ (((0 : Int) ≤ (hF h x0 2) ∧ (hF h x0 2) < 1000) ∧ (∀ m103 : Hp, m103 = setA h (x0 + 1) (hF h x0 2) (bAnd (bShr s0 (24 - (8 * (l6 % 4)))) 255) → ((i32 ((hF m103 x0 2) + 1)) ∧ (∀ m111 : Hp, m111 = setF m103 x0 2 ((hF m103 x0 2) + 1) → ((i32 (l6 + 1)) ∧ (∀ y114 : Int, y114 = l6 + 1 → (K23 y114 m111)))))))))
theorem w_X4_feed_76 {G : GT} {X : ET} {h0 : Hp} {x0 x1 x2 x3 x4 x5 : Int} (HE : XE G X cX4_feed 8 RX4 0 0 h0) (hr : XR X (some .int)) (f0 : Lay_X4 h0 x0) {Q : Int → Hp → Prop} {K23 : Int → Hp → Prop} (hK23 : ∀ (l6 : Int) (h : Hp), K23 l6 h → Wx G X h0 (QI Q) h 23 [some (rV x0), some (iV x1), some (iV x2), some (iV x3), some (iV x4), some (iV x5), some (iV l6), none] []) {l6 s0 : Int} {h : Hp} (hw : g_X4_feed_b76 x0 x1 x2 x3 x4 x5 Q K23 l6 s0 h) : Wx G X h0 (QI Q) h 76 [some (rV x0), some (iV x1), some (iV x2), some (iV x3), some (iV x4), some (iV x5), some (iV l6), none] [iV s0] := by
  refine Wx.start (fun EB => ?_)
  unfold g_X4_feed_b76 at hw
  refine x_istore HE (lo' := [some (rV x0), some (iV x1), some (iV x2), some (iV x3), some (iV x4), some (iV x5), some (iV l6), some (iV s0)]) dX4_feed_76 (Nat.le_of_ble_eq_true rfl) rfl ?_
  refine x_aload_n HE 0 dX4_feed_78 rfl rfl ?_
  refine x_gR HE dX4_feed_79 fd_X4_1 q1838 (Or.inl rfl) (Lay_X4.tag (f0.ext EB)) (Lay_X4_1 (f0.ext EB)).1 ?_
  refine x_aload_n HE 0 dX4_feed_82 rfl rfl ?_
  refine x_gI HE dX4_feed_83 fd_X4_2 q1839 (Or.inl rfl) (Lay_X4.tag (f0.ext EB)) rfl ?_
  refine x_iload HE dX4_feed_86 rfl ?_
  refine x_bipush HE dX4_feed_88 (by decide) ?_
  refine x_bipush HE dX4_feed_90 (by decide) ?_
  refine x_iload HE dX4_feed_92 rfl ?_
  refine x_iconst HE dX4_feed_94 (by decide) ?_
  obtain ⟨v95, hw⟩ := hw
  refine x_irem HE dX4_feed_95 v95.1 v95.2 ?_
  obtain ⟨v96, hw⟩ := hw
  refine x_imul HE dX4_feed_96 v96 ?_
  obtain ⟨v97, hw⟩ := hw
  refine x_isub HE dX4_feed_97 v97 ?_
  refine x_ishr HE dX4_feed_98 ?_
  refine x_sipush HE dX4_feed_99 (by decide) ?_
  refine x_iand HE dX4_feed_102 ?_
  obtain ⟨i103, hw⟩ := hw
  refine x_iast HE dX4_feed_103 ((Lay_X4_1 (f0.ext EB)).2.1) (ix_of ((Lay_X4_1 (f0.ext EB)).2.2) i103) (fun m103 em103 E103 => ?_)
  have hw := hw m103 em103
  refine x_aload_n HE 0 dX4_feed_104 rfl rfl ?_
  refine x_dup HE dX4_feed_105 (fun o => o) ?_
  refine x_gI HE dX4_feed_106 fd_X4_2 q1839 (Or.inl rfl) (Lay_X4.tag (f0.ext (EB.tr E103))) rfl ?_
  refine x_iconst HE dX4_feed_109 (by decide) ?_
  obtain ⟨v110, hw⟩ := hw
  refine x_iadd HE dX4_feed_110 v110 ?_
  refine x_pI HE dX4_feed_111 fd_X4_2 q1839 (Or.inl rfl) (Or.inl rfl) (nf_int _) (Lay_X4.tag (f0.ext (EB.tr E103))) (nro (by decide)) (Or.inl nf_X4_2) (fun m111 em111 E111 => ?_)
  have hw := hw m111 em111
  obtain ⟨v114, hw⟩ := hw
  refine x_iincN HE (fun y114 => [some (rV x0), some (iV x1), some (iV x2), some (iV x3), some (iV x4), some (iV x5), some (iV y114), some (iV s0)]) dX4_feed_114 rfl v114 (Nat.le_of_ble_eq_true rfl) (fun _ => rfl) (fun y114 ey114 => ?_)
  have hw := hw y114 ey114
  refine x_goto HE 23 dX4_feed_117 (by decide) ?_
  refine Wx.mask [true, true, true, true, true, true, true, false] (lo2 := [some (rV x0), some (iV x1), some (iV x2), some (iV x3), some (iV x4), some (iV x5), some (iV y114), none]) rfl ?_
  exact hK23 _ _ hw
def g_X4_feed_L23 (x0 x1 x2 x3 x4 x5 : Int) (Q : Int → Hp → Prop) (K23 : Int → Hp → Prop) (l6 : Int) (h : Hp) : Prop :=
  ((20 ≤ l6) → (g_X4_feed_b120 x0 x1 x2 x3 x4 x5 Q h)) ∧ ((l6 < 20) → (((4 ≤ l6) → (((8 ≤ l6) → (((12 ≤ l6) → (((16 ≤ l6) → (g_X4_feed_b76 x0 x1 x2 x3 x4 x5 Q K23 l6 x5 h)) ∧ ((l6 < 16) → (g_X4_feed_b76 x0 x1 x2 x3 x4 x5 Q K23 l6 x4 h)))) ∧ ((l6 < 12) → (g_X4_feed_b76 x0 x1 x2 x3 x4 x5 Q K23 l6 x3 h)))) ∧ ((l6 < 8) → (g_X4_feed_b76 x0 x1 x2 x3 x4 x5 Q K23 l6 x2 h)))) ∧ ((l6 < 4) → (g_X4_feed_b76 x0 x1 x2 x3 x4 x5 Q K23 l6 x1 h))))
theorem w_X4_feed_23 {G : GT} {X : ET} {h0 : Hp} {x0 x1 x2 x3 x4 x5 : Int} (HE : XE G X cX4_feed 8 RX4 0 0 h0) (hr : XR X (some .int)) (f0 : Lay_X4 h0 x0) {Q : Int → Hp → Prop} {K23 : Int → Hp → Prop} (hK23 : ∀ (l6 : Int) (h : Hp), K23 l6 h → Wx G X h0 (QI Q) h 23 [some (rV x0), some (iV x1), some (iV x2), some (iV x3), some (iV x4), some (iV x5), some (iV l6), none] []) {l6 : Int} {h : Hp} (hw : g_X4_feed_L23 x0 x1 x2 x3 x4 x5 Q K23 l6 h) : Wx G X h0 (QI Q) h 23 [some (rV x0), some (iV x1), some (iV x2), some (iV x3), some (iV x4), some (iV x5), some (iV l6), none] [] := by
  refine Wx.start (fun EB => ?_)
  unfold g_X4_feed_L23 at hw
  refine x_iload HE dX4_feed_23 rfl ?_
  refine x_bipush HE dX4_feed_25 (by decide) ?_
  refine x_ic_ge HE 120 dX4_feed_27 (by decide) (fun c27 => ?_) (fun c27 => ?_)
  · have hw := hw.1 c27
    refine Wx.mask [true, true, true, true, true, true, false, true] (lo2 := [some (rV x0), some (iV x1), some (iV x2), some (iV x3), some (iV x4), some (iV x5), none, none]) rfl ?_
    exact w_X4_feed_120 HE hr f0 hw
  · have hw := hw.2 c27
    refine x_iload HE dX4_feed_30 rfl ?_
    refine x_iconst HE dX4_feed_32 (by decide) ?_
    refine x_ic_ge HE 40 dX4_feed_33 (by decide) (fun c33 => ?_) (fun c33 => ?_)
    · have hw := hw.1 c33
      refine x_iload HE dX4_feed_40 rfl ?_
      refine x_bipush HE dX4_feed_42 (by decide) ?_
      refine x_ic_ge HE 51 dX4_feed_44 (by decide) (fun c44 => ?_) (fun c44 => ?_)
      · have hw := hw.1 c44
        refine x_iload HE dX4_feed_51 rfl ?_
        refine x_bipush HE dX4_feed_53 (by decide) ?_
        refine x_ic_ge HE 62 dX4_feed_55 (by decide) (fun c55 => ?_) (fun c55 => ?_)
        · have hw := hw.1 c55
          refine x_iload HE dX4_feed_62 rfl ?_
          refine x_bipush HE dX4_feed_64 (by decide) ?_
          refine x_ic_ge HE 74 dX4_feed_66 (by decide) (fun c66 => ?_) (fun c66 => ?_)
          · have hw := hw.1 c66
            refine x_iload HE dX4_feed_74 rfl ?_
            exact w_X4_feed_76 HE hr f0 hK23 hw
          · have hw := hw.2 c66
            refine x_iload HE dX4_feed_69 rfl ?_
            refine x_goto HE 76 dX4_feed_71 (by decide) ?_
            exact w_X4_feed_76 HE hr f0 hK23 hw
        · have hw := hw.2 c55
          refine x_iload_n HE 3 dX4_feed_58 rfl rfl ?_
          refine x_goto HE 76 dX4_feed_59 (by decide) ?_
          exact w_X4_feed_76 HE hr f0 hK23 hw
      · have hw := hw.2 c44
        refine x_iload_n HE 2 dX4_feed_47 rfl rfl ?_
        refine x_goto HE 76 dX4_feed_48 (by decide) ?_
        exact w_X4_feed_76 HE hr f0 hK23 hw
    · have hw := hw.2 c33
      refine x_iload_n HE 1 dX4_feed_36 rfl rfl ?_
      refine x_goto HE 76 dX4_feed_37 (by decide) ?_
      exact w_X4_feed_76 HE hr f0 hK23 hw
theorem wl_X4_feed_23 {G : GT} {X : ET} {h0 : Hp} {x0 x1 x2 x3 x4 x5 : Int} (HE : XE G X cX4_feed 8 RX4 0 0 h0) (hr : XR X (some .int)) (f0 : Lay_X4 h0 x0) {Q : Int → Hp → Prop} {l6 : Int} {h : Hp} (hw : Lp1 (g_X4_feed_L23 x0 x1 x2 x3 x4 x5 Q) l6 h) : Wx G X h0 (QI Q) h 23 [some (rV x0), some (iV x1), some (iV x2), some (iV x3), some (iV x4), some (iV x5), some (iV l6), none] [] := by
  obtain ⟨n, hw⟩ := hw
  induction n generalizing l6 h with
  | zero => exact hw.elim
  | succ n ih => exact w_X4_feed_23 HE hr f0 (fun _ _ hk => ih hk) hw
def g_X4_feed (x0 x1 x2 x3 x4 x5 : Int) (Q : Int → Hp → Prop) (h : Hp) : Prop :=
  ∀ m2 : Hp, m2 = setF h x0 0 0 → ((i32 ((hF m2 x0 2) + 20)) ∧ (((((hF m2 x0 2) + 20) ≤ 1000) → (Lp1 (g_X4_feed_L23 x0 x1 x2 x3 x4 x5 Q) 0 m2)) ∧ ((1000 < ((hF m2 x0 2) + 20)) → (Q (-1) m2))))
theorem w_X4_feed_0 {G : GT} {X : ET} {h0 : Hp} {x0 x1 x2 x3 x4 x5 : Int} (HE : XE G X cX4_feed 8 RX4 0 0 h0) (hr : XR X (some .int)) (f0 : Lay_X4 h0 x0) {Q : Int → Hp → Prop} {h : Hp} (hw : g_X4_feed x0 x1 x2 x3 x4 x5 Q h) : Wx G X h0 (QI Q) h 0 [some (rV x0), some (iV x1), some (iV x2), some (iV x3), some (iV x4), some (iV x5), none, none] [] := by
  refine Wx.start (fun EB => ?_)
  unfold g_X4_feed at hw
  refine x_aload_n HE 0 dX4_feed_0 rfl rfl ?_
  refine x_iconst HE dX4_feed_1 (by decide) ?_
  refine x_pI HE dX4_feed_2 fd_X4_0 q1837 (Or.inl rfl) (Or.inl rfl) (nf_int _) (Lay_X4.tag (f0.ext EB)) (nro (by decide)) (Or.inl nf_X4_0) (fun m2 em2 E2 => ?_)
  have hw := hw m2 em2
  refine x_aload_n HE 0 dX4_feed_5 rfl rfl ?_
  refine x_gI HE dX4_feed_6 fd_X4_2 q1839 (Or.inl rfl) (Lay_X4.tag (f0.ext (EB.tr E2))) rfl ?_
  refine x_bipush HE dX4_feed_9 (by decide) ?_
  obtain ⟨v11, hw⟩ := hw
  refine x_iadd HE dX4_feed_11 v11 ?_
  refine x_sipush HE dX4_feed_12 (by decide) ?_
  refine x_ic_le HE 20 dX4_feed_15 (by decide) (fun c15 => ?_) (fun c15 => ?_)
  · have hw := hw.1 c15
    refine x_iconst HE dX4_feed_20 (by decide) ?_
    refine x_istore HE (lo' := [some (rV x0), some (iV x1), some (iV x2), some (iV x3), some (iV x4), some (iV x5), some (iV 0), none]) dX4_feed_21 (Nat.le_of_ble_eq_true rfl) rfl ?_
    exact wl_X4_feed_23 HE hr f0 hw
  · have hw := hw.2 c15
    refine x_iconst HE dX4_feed_18 (by decide) ?_
    exact x_iret HE hr dX4_feed_19 hw
theorem k_X4_feed {G : GT} {x0 x1 x2 x3 x4 x5 : Int} {Q : Int → Hp → Prop} {h : Hp} (f0 : Lay_X4 h x0) (l : Launch) (hw : g_X4_feed x0 x1 x2 x3 x4 x5 Q h) : XM G l yX4_feed cX4_feed 8 (some .int) 0 0 [rV x0, iV x1, iV x2, iV x3, iV x4, iV x5] (QI Q) h :=
  XM.of (by decide) (Nat.le_of_ble_eq_true rfl) (fun X HE hr hn => w_X4_feed_0 HE hr f0 hw)
def g_X4_good (x0 : Int) (Q : Hp → Prop) (h : Hp) : Prop :=
  ∀ m2 : Hp, m2 = setF h x0 0 0 → (∀ m7 : Hp, m7 = setF m2 x0 11 0 → (Q m7))
theorem w_X4_good_0 {G : GT} {X : ET} {h0 : Hp} {x0 : Int} (HE : XE G X cX4_good 1 RX4 0 0 h0) (hr : XR X none) (f0 : Lay_X4 h0 x0) {Q : Hp → Prop} {h : Hp} (hw : g_X4_good x0 Q h) : Wx G X h0 (QV Q) h 0 [some (rV x0)] [] := by
  refine Wx.start (fun EB => ?_)
  unfold g_X4_good at hw
  refine x_aload_n HE 0 dX4_good_0 rfl rfl ?_
  refine x_iconst HE dX4_good_1 (by decide) ?_
  refine x_pI HE dX4_good_2 fd_X4_0 q1837 (Or.inl rfl) (Or.inl rfl) (nf_int _) (Lay_X4.tag (f0.ext EB)) (nro (by decide)) (Or.inl nf_X4_0) (fun m2 em2 E2 => ?_)
  have hw := hw m2 em2
  refine x_aload_n HE 0 dX4_good_5 rfl rfl ?_
  refine x_iconst HE dX4_good_6 (by decide) ?_
  refine x_pI HE dX4_good_7 fd_X4_11 q1848 (Or.inl rfl) (Or.inl rfl) (nf_int _) (Lay_X4.tag (f0.ext (EB.tr E2))) (nro (by decide)) (Or.inl nf_X4_11) (fun m7 em7 E7 => ?_)
  have hw := hw m7 em7
  exact x_vret HE hr dX4_good_10 hw
theorem k_X4_good {G : GT} {x0 : Int} {Q : Hp → Prop} {h : Hp} (f0 : Lay_X4 h x0) (l : Launch) (hw : g_X4_good x0 Q h) : XM G l yX4_good cX4_good 1 none 0 0 [rV x0] (QV Q) h :=
  XM.of (by decide) (Nat.le_of_ble_eq_true rfl) (fun X HE hr hn => w_X4_good_0 HE hr f0 hw)
def g_X4_within_b15 (x0 x1 x2 : Int) (Q : Int → Hp → Prop) (s0 : Int) (h : Hp) : Prop :=
  (s0 = 0 ∨ s0 = 1) ∧ Q s0 h
theorem w_X4_within_15 {G : GT} {X : ET} {h0 : Hp} {x0 x1 x2 : Int} (HE : XE G X cX4_within 3 RX4 0 0 h0) (hr : XR X (some .boolean)) {Q : Int → Hp → Prop} {s0 : Int} {h : Hp} (hw : g_X4_within_b15 x0 x1 x2 Q s0 h) : Wx G X h0 (QI Q) h 15 [some (iV x0), some (iV x1), some (iV x2)] [iV s0] := by
  refine Wx.start (fun EB => ?_)
  unfold g_X4_within_b15 at hw
  exact x_zret HE hr dX4_within_15 hw.1 hw.2
def g_X4_within_b14 (x0 x1 x2 : Int) (Q : Int → Hp → Prop) (h : Hp) : Prop :=
  g_X4_within_b15 x0 x1 x2 Q 0 h
theorem w_X4_within_14 {G : GT} {X : ET} {h0 : Hp} {x0 x1 x2 : Int} (HE : XE G X cX4_within 3 RX4 0 0 h0) (hr : XR X (some .boolean)) {Q : Int → Hp → Prop} {h : Hp} (hw : g_X4_within_b14 x0 x1 x2 Q  h) : Wx G X h0 (QI Q) h 14 [some (iV x0), some (iV x1), some (iV x2)] [] := by
  refine Wx.start (fun EB => ?_)
  unfold g_X4_within_b14 at hw
  refine x_iconst HE dX4_within_14 (by decide) ?_
  exact w_X4_within_15 HE hr hw
def g_X4_within (x0 x1 x2 : Int) (Q : Int → Hp → Prop) (h : Hp) : Prop :=
  ((x0 < x1) → (g_X4_within_b14 x0 x1 x2 Q h)) ∧ ((x1 ≤ x0) → (((x2 < x0) → (g_X4_within_b14 x0 x1 x2 Q h)) ∧ ((x0 ≤ x2) → (g_X4_within_b15 x0 x1 x2 Q 1 h))))
theorem w_X4_within_0 {G : GT} {X : ET} {h0 : Hp} {x0 x1 x2 : Int} (HE : XE G X cX4_within 3 RX4 0 0 h0) (hr : XR X (some .boolean)) {Q : Int → Hp → Prop} {h : Hp} (hw : g_X4_within x0 x1 x2 Q h) : Wx G X h0 (QI Q) h 0 [some (iV x0), some (iV x1), some (iV x2)] [] := by
  refine Wx.start (fun EB => ?_)
  unfold g_X4_within at hw
  refine x_iload_n HE 0 dX4_within_0 rfl rfl ?_
  refine x_iload_n HE 1 dX4_within_1 rfl rfl ?_
  refine x_ic_lt HE 14 dX4_within_2 (by decide) (fun c2 => ?_) (fun c2 => ?_)
  · have hw := hw.1 c2
    exact w_X4_within_14 HE hr hw
  · have hw := hw.2 c2
    refine x_iload_n HE 0 dX4_within_5 rfl rfl ?_
    refine x_iload_n HE 2 dX4_within_6 rfl rfl ?_
    refine x_ic_gt HE 14 dX4_within_7 (by decide) (fun c7 => ?_) (fun c7 => ?_)
    · have hw := hw.1 c7
      exact w_X4_within_14 HE hr hw
    · have hw := hw.2 c7
      refine x_iconst HE dX4_within_10 (by decide) ?_
      refine x_goto HE 15 dX4_within_11 (by decide) ?_
      exact w_X4_within_15 HE hr hw
theorem k_X4_within {G : GT} {x0 x1 x2 : Int} {Q : Int → Hp → Prop} {h : Hp} (l : Launch) (hw : g_X4_within x0 x1 x2 Q h) : XM G l yX4_within cX4_within 3 (some .boolean) 0 0 [iV x0, iV x1, iV x2] (QI Q) h :=
  XM.of (by decide) (Nat.le_of_ble_eq_true rfl) (fun X HE hr hn => w_X4_within_0 HE hr  hw)
def g_X4_no (x0 x1 : Int) (Q : Int → Hp → Prop) (h : Hp) : Prop :=
  ∀ m2 : Hp, m2 = setF h x0 11 x1 → (Q (-1) m2)
theorem w_X4_no_0 {G : GT} {X : ET} {h0 : Hp} {x0 x1 : Int} (HE : XE G X cX4_no 2 RX4 0 0 h0) (hr : XR X (some .int)) (f0 : Lay_X4 h0 x0) {Q : Int → Hp → Prop} {h : Hp} (hw : g_X4_no x0 x1 Q h) : Wx G X h0 (QI Q) h 0 [some (rV x0), some (iV x1)] [] := by
  refine Wx.start (fun EB => ?_)
  unfold g_X4_no at hw
  refine x_aload_n HE 0 dX4_no_0 rfl rfl ?_
  refine x_iload_n HE 1 dX4_no_1 rfl rfl ?_
  refine x_pI HE dX4_no_2 fd_X4_11 q1848 (Or.inl rfl) (Or.inl rfl) (nf_int _) (Lay_X4.tag (f0.ext EB)) (nro (by decide)) (Or.inl nf_X4_11) (fun m2 em2 E2 => ?_)
  have hw := hw m2 em2
  refine x_iconst HE dX4_no_5 (by decide) ?_
  exact x_iret HE hr dX4_no_6 hw
theorem k_X4_no {G : GT} {x0 x1 : Int} {Q : Int → Hp → Prop} {h : Hp} (f0 : Lay_X4 h x0) (l : Launch) (hw : g_X4_no x0 x1 Q h) : XM G l yX4_no cX4_no 2 (some .int) 0 0 [rV x0, iV x1] (QI Q) h :=
  XM.of (by decide) (Nat.le_of_ble_eq_true rfl) (fun X HE hr hn => w_X4_no_0 HE hr f0 hw)
def g_X4_seen_b18 (x0 x1 : Int) (Q : Int → Hp → Prop) (s0 : Int) (h : Hp) : Prop :=
  Q s0 h
theorem w_X4_seen_18 {G : GT} {X : ET} {h0 : Hp} {x0 x1 : Int} (HE : XE G X cX4_seen 2 RX4 0 0 h0) (hr : XR X (some .int)) (f0 : Lay_X4 h0 x0) {Q : Int → Hp → Prop} {s0 : Int} {h : Hp} (hw : g_X4_seen_b18 x0 x1 Q s0 h) : Wx G X h0 (QI Q) h 18 [some (rV x0), some (iV x1)] [iV s0] := by
  refine Wx.start (fun EB => ?_)
  unfold g_X4_seen_b18 at hw
  exact x_iret HE hr dX4_seen_18 hw
def g_X4_seen (x0 x1 : Int) (Q : Int → Hp → Prop) (h : Hp) : Prop :=
  (((hF h x0 3) ≤ x1) → (g_X4_seen_b18 x0 x1 Q (-1) h)) ∧ ((x1 < (hF h x0 3)) → (((0 : Int) ≤ x1 ∧ x1 < 1000) ∧ (g_X4_seen_b18 x0 x1 Q (hA h (x0 + 1) x1) h)))
theorem w_X4_seen_0 {G : GT} {X : ET} {h0 : Hp} {x0 x1 : Int} (HE : XE G X cX4_seen 2 RX4 0 0 h0) (hr : XR X (some .int)) (f0 : Lay_X4 h0 x0) {Q : Int → Hp → Prop} {h : Hp} (hw : g_X4_seen x0 x1 Q h) : Wx G X h0 (QI Q) h 0 [some (rV x0), some (iV x1)] [] := by
  refine Wx.start (fun EB => ?_)
  unfold g_X4_seen at hw
  refine x_iload_n HE 1 dX4_seen_0 rfl rfl ?_
  refine x_aload_n HE 0 dX4_seen_1 rfl rfl ?_
  refine x_gI HE dX4_seen_2 fd_X4_3 q1840 (Or.inl rfl) (Lay_X4.tag (f0.ext EB)) rfl ?_
  refine x_ic_ge HE 17 dX4_seen_5 (by decide) (fun c5 => ?_) (fun c5 => ?_)
  · have hw := hw.1 c5
    refine x_iconst HE dX4_seen_17 (by decide) ?_
    exact w_X4_seen_18 HE hr f0 hw
  · have hw := hw.2 c5
    refine x_aload_n HE 0 dX4_seen_8 rfl rfl ?_
    refine x_gR HE dX4_seen_9 fd_X4_1 q1838 (Or.inl rfl) (Lay_X4.tag (f0.ext EB)) (Lay_X4_1 (f0.ext EB)).1 ?_
    refine x_iload_n HE 1 dX4_seen_12 rfl rfl ?_
    obtain ⟨i13, hw⟩ := hw
    refine x_iald HE dX4_seen_13 (t := 1) (by decide) ((Lay_X4_1 (f0.ext EB)).2.1) (ix_of ((Lay_X4_1 (f0.ext EB)).2.2) i13) rfl ?_
    refine x_goto HE 18 dX4_seen_14 (by decide) ?_
    exact w_X4_seen_18 HE hr f0 hw
theorem k_X4_seen {G : GT} {x0 x1 : Int} {Q : Int → Hp → Prop} {h : Hp} (f0 : Lay_X4 h x0) (l : Launch) (hw : g_X4_seen x0 x1 Q h) : XM G l yX4_seen cX4_seen 2 (some .int) 0 0 [rV x0, iV x1] (QI Q) h :=
  XM.of (by decide) (Nat.le_of_ble_eq_true rfl) (fun X HE hr hn => w_X4_seen_0 HE hr f0 hw)
def g_X4_isSmall_b17 (x0 : Int) (Q : Int → Hp → Prop) (s0 : Int) (h : Hp) : Prop :=
  (s0 = 0 ∨ s0 = 1) ∧ Q s0 h
theorem w_X4_isSmall_17 {G : GT} {X : ET} {h0 : Hp} {x0 : Int} (HE : XE G X cX4_isSmall 1 RX4 0 0 h0) (hr : XR X (some .boolean)) {Q : Int → Hp → Prop} {s0 : Int} {h : Hp} (hw : g_X4_isSmall_b17 x0 Q s0 h) : Wx G X h0 (QI Q) h 17 [some (iV x0)] [iV s0] := by
  refine Wx.start (fun EB => ?_)
  unfold g_X4_isSmall_b17 at hw
  exact x_zret HE hr dX4_isSmall_17 hw.1 hw.2
def g_X4_isSmall_b16 (x0 : Int) (Q : Int → Hp → Prop) (h : Hp) : Prop :=
  g_X4_isSmall_b17 x0 Q 0 h
theorem w_X4_isSmall_16 {G : GT} {X : ET} {h0 : Hp} {x0 : Int} (HE : XE G X cX4_isSmall 1 RX4 0 0 h0) (hr : XR X (some .boolean)) {Q : Int → Hp → Prop} {h : Hp} (hw : g_X4_isSmall_b16 x0 Q  h) : Wx G X h0 (QI Q) h 16 [some (iV x0)] [] := by
  refine Wx.start (fun EB => ?_)
  unfold g_X4_isSmall_b16 at hw
  refine x_iconst HE dX4_isSmall_16 (by decide) ?_
  exact w_X4_isSmall_17 HE hr hw
def g_X4_isSmall (x0 : Int) (Q : Int → Hp → Prop) (h : Hp) : Prop :=
  ((x0 < 97) → (g_X4_isSmall_b16 x0 Q h)) ∧ ((97 ≤ x0) → (((122 < x0) → (g_X4_isSmall_b16 x0 Q h)) ∧ ((x0 ≤ 122) → (g_X4_isSmall_b17 x0 Q 1 h))))
theorem w_X4_isSmall_0 {G : GT} {X : ET} {h0 : Hp} {x0 : Int} (HE : XE G X cX4_isSmall 1 RX4 0 0 h0) (hr : XR X (some .boolean)) {Q : Int → Hp → Prop} {h : Hp} (hw : g_X4_isSmall x0 Q h) : Wx G X h0 (QI Q) h 0 [some (iV x0)] [] := by
  refine Wx.start (fun EB => ?_)
  unfold g_X4_isSmall at hw
  refine x_iload_n HE 0 dX4_isSmall_0 rfl rfl ?_
  refine x_bipush HE dX4_isSmall_1 (by decide) ?_
  refine x_ic_lt HE 16 dX4_isSmall_3 (by decide) (fun c3 => ?_) (fun c3 => ?_)
  · have hw := hw.1 c3
    exact w_X4_isSmall_16 HE hr hw
  · have hw := hw.2 c3
    refine x_iload_n HE 0 dX4_isSmall_6 rfl rfl ?_
    refine x_bipush HE dX4_isSmall_7 (by decide) ?_
    refine x_ic_gt HE 16 dX4_isSmall_9 (by decide) (fun c9 => ?_) (fun c9 => ?_)
    · have hw := hw.1 c9
      exact w_X4_isSmall_16 HE hr hw
    · have hw := hw.2 c9
      refine x_iconst HE dX4_isSmall_12 (by decide) ?_
      refine x_goto HE 17 dX4_isSmall_13 (by decide) ?_
      exact w_X4_isSmall_17 HE hr hw
theorem k_X4_isSmall {G : GT} {x0 : Int} {Q : Int → Hp → Prop} {h : Hp} (l : Launch) (hw : g_X4_isSmall x0 Q h) : XM G l yX4_isSmall cX4_isSmall 1 (some .boolean) 0 0 [iV x0] (QI Q) h :=
  XM.of (by decide) (Nat.le_of_ble_eq_true rfl) (fun X HE hr hn => w_X4_isSmall_0 HE hr  hw)
def g_X4_isDigit_b17 (x0 : Int) (Q : Int → Hp → Prop) (s0 : Int) (h : Hp) : Prop :=
  (s0 = 0 ∨ s0 = 1) ∧ Q s0 h
theorem w_X4_isDigit_17 {G : GT} {X : ET} {h0 : Hp} {x0 : Int} (HE : XE G X cX4_isDigit 1 RX4 0 0 h0) (hr : XR X (some .boolean)) {Q : Int → Hp → Prop} {s0 : Int} {h : Hp} (hw : g_X4_isDigit_b17 x0 Q s0 h) : Wx G X h0 (QI Q) h 17 [some (iV x0)] [iV s0] := by
  refine Wx.start (fun EB => ?_)
  unfold g_X4_isDigit_b17 at hw
  exact x_zret HE hr dX4_isDigit_17 hw.1 hw.2
def g_X4_isDigit_b16 (x0 : Int) (Q : Int → Hp → Prop) (h : Hp) : Prop :=
  g_X4_isDigit_b17 x0 Q 0 h
theorem w_X4_isDigit_16 {G : GT} {X : ET} {h0 : Hp} {x0 : Int} (HE : XE G X cX4_isDigit 1 RX4 0 0 h0) (hr : XR X (some .boolean)) {Q : Int → Hp → Prop} {h : Hp} (hw : g_X4_isDigit_b16 x0 Q  h) : Wx G X h0 (QI Q) h 16 [some (iV x0)] [] := by
  refine Wx.start (fun EB => ?_)
  unfold g_X4_isDigit_b16 at hw
  refine x_iconst HE dX4_isDigit_16 (by decide) ?_
  exact w_X4_isDigit_17 HE hr hw
def g_X4_isDigit (x0 : Int) (Q : Int → Hp → Prop) (h : Hp) : Prop :=
  ((x0 < 48) → (g_X4_isDigit_b16 x0 Q h)) ∧ ((48 ≤ x0) → (((57 < x0) → (g_X4_isDigit_b16 x0 Q h)) ∧ ((x0 ≤ 57) → (g_X4_isDigit_b17 x0 Q 1 h))))
theorem w_X4_isDigit_0 {G : GT} {X : ET} {h0 : Hp} {x0 : Int} (HE : XE G X cX4_isDigit 1 RX4 0 0 h0) (hr : XR X (some .boolean)) {Q : Int → Hp → Prop} {h : Hp} (hw : g_X4_isDigit x0 Q h) : Wx G X h0 (QI Q) h 0 [some (iV x0)] [] := by
  refine Wx.start (fun EB => ?_)
  unfold g_X4_isDigit at hw
  refine x_iload_n HE 0 dX4_isDigit_0 rfl rfl ?_
  refine x_bipush HE dX4_isDigit_1 (by decide) ?_
  refine x_ic_lt HE 16 dX4_isDigit_3 (by decide) (fun c3 => ?_) (fun c3 => ?_)
  · have hw := hw.1 c3
    exact w_X4_isDigit_16 HE hr hw
  · have hw := hw.2 c3
    refine x_iload_n HE 0 dX4_isDigit_6 rfl rfl ?_
    refine x_bipush HE dX4_isDigit_7 (by decide) ?_
    refine x_ic_gt HE 16 dX4_isDigit_9 (by decide) (fun c9 => ?_) (fun c9 => ?_)
    · have hw := hw.1 c9
      exact w_X4_isDigit_16 HE hr hw
    · have hw := hw.2 c9
      refine x_iconst HE dX4_isDigit_12 (by decide) ?_
      refine x_goto HE 17 dX4_isDigit_13 (by decide) ?_
      exact w_X4_isDigit_17 HE hr hw
theorem k_X4_isDigit {G : GT} {x0 : Int} {Q : Int → Hp → Prop} {h : Hp} (l : Launch) (hw : g_X4_isDigit x0 Q h) : XM G l yX4_isDigit cX4_isDigit 1 (some .boolean) 0 0 [iV x0] (QI Q) h :=
  XM.of (by decide) (Nat.le_of_ble_eq_true rfl) (fun X HE hr hn => w_X4_isDigit_0 HE hr  hw)
def g_X4_nextToken_b247 (x0 : Int) (Q : Hp → Prop) (h : Hp) : Prop :=
  Q h
theorem w_X4_nextToken_247 {G : GT} {X : ET} {h0 : Hp} {x0 : Int} (HE : XE G X cX4_nextToken 4 RX4 1 21 h0) (hr : XR X none) (f0 : Lay_X4 h0 x0) {Q : Hp → Prop} {h : Hp} (hw : g_X4_nextToken_b247 x0 Q  h) : Wx G X h0 (QV Q) h 247 [some (rV x0), none, none, none] [] := by
  refine Wx.start (fun EB => ?_)
  unfold g_X4_nextToken_b247 at hw
  exact x_vret HE hr dX4_nextToken_247 hw
def g_X4_nextToken_b244 (x0 : Int) (Q : Hp → Prop) (s0 s1 : Int) (h : Hp) : Prop :=
  (Lay_X4 h s0) ∧ (∀ m244 : Hp, m244 = setF h s0 6 s1 → (g_X4_nextToken_b247 x0 Q m244))
theorem w_X4_nextToken_244 {G : GT} {X : ET} {h0 : Hp} {x0 : Int} (HE : XE G X cX4_nextToken 4 RX4 1 21 h0) (hr : XR X none) (f0 : Lay_X4 h0 x0) {Q : Hp → Prop} {s0 s1 : Int} {h : Hp} (hw : g_X4_nextToken_b244 x0 Q s0 s1 h) : Wx G X h0 (QV Q) h 244 [some (rV x0), none, none, none] [iV s1, rV s0] := by
  refine Wx.start (fun EB => ?_)
  unfold g_X4_nextToken_b244 at hw
  obtain ⟨v244, hw⟩ := hw
  refine x_pI HE dX4_nextToken_244 fd_X4_6 q1843 (Or.inl rfl) (Or.inl rfl) (nf_int _) (Lay_X4.tag v244) (nro (by decide)) (Or.inl nf_X4_6) (fun m244 em244 E244 => ?_)
  have hw := hw m244 em244
  exact w_X4_nextToken_247 HE hr f0 hw
def g_X4_nextToken_b239 (x0 : Int) (Q : Hp → Prop) (l2 s0 : Int) (h : Hp) : Prop :=
  g_X4_nextToken_b244 x0 Q s0 l2 h
theorem w_X4_nextToken_239 {G : GT} {X : ET} {h0 : Hp} {x0 : Int} (HE : XE G X cX4_nextToken 4 RX4 1 21 h0) (hr : XR X none) (f0 : Lay_X4 h0 x0) {Q : Hp → Prop} {l2 s0 : Int} {h : Hp} (hw : g_X4_nextToken_b239 x0 Q l2 s0 h) : Wx G X h0 (QV Q) h 239 [some (rV x0), none, some (iV l2), none] [rV s0] := by
  refine Wx.start (fun EB => ?_)
  unfold g_X4_nextToken_b239 at hw
  refine x_iload_n HE 2 dX4_nextToken_239 rfl rfl ?_
  refine x_goto HE 244 dX4_nextToken_240 (by decide) ?_
  refine Wx.mask [true, true, false, true] (lo2 := [some (rV x0), none, none, none]) rfl ?_
  exact w_X4_nextToken_244 HE hr f0 hw
def g_X4_nextToken_b213 (x0 : Int) (Q : Hp → Prop) (s0 s1 : Int) (h : Hp) : Prop :=
  (Lay_X4 h s0) ∧ (∀ m213 : Hp, m213 = setF h s0 6 s1 → (g_X4_nextToken_b247 x0 Q m213))
theorem w_X4_nextToken_213 {G : GT} {X : ET} {h0 : Hp} {x0 : Int} (HE : XE G X cX4_nextToken 4 RX4 1 21 h0) (hr : XR X none) (f0 : Lay_X4 h0 x0) {Q : Hp → Prop} {s0 s1 : Int} {h : Hp} (hw : g_X4_nextToken_b213 x0 Q s0 s1 h) : Wx G X h0 (QV Q) h 213 [some (rV x0), none, none, none] [iV s1, rV s0] := by
  refine Wx.start (fun EB => ?_)
  unfold g_X4_nextToken_b213 at hw
  obtain ⟨v213, hw⟩ := hw
  refine x_pI HE dX4_nextToken_213 fd_X4_6 q1843 (Or.inl rfl) (Or.inl rfl) (nf_int _) (Lay_X4.tag v213) (nro (by decide)) (Or.inl nf_X4_6) (fun m213 em213 E213 => ?_)
  have hw := hw m213 em213
  refine x_goto HE 247 dX4_nextToken_216 (by decide) ?_
  exact w_X4_nextToken_247 HE hr f0 hw
def g_X4_nextToken_b197 (x0 : Int) (Q : Hp → Prop) (l1 l3 : Int) (h : Hp) : Prop :=
  ∀ m199 : Hp, m199 = setF h x0 5 l1 → (((l3 ≤ 3) → (g_X4_nextToken_b213 x0 Q x0 3 m199)) ∧ ((3 < l3) → (g_X4_nextToken_b213 x0 Q x0 1 m199)))
theorem w_X4_nextToken_197 {G : GT} {X : ET} {h0 : Hp} {x0 : Int} (HE : XE G X cX4_nextToken 4 RX4 1 21 h0) (hr : XR X none) (f0 : Lay_X4 h0 x0) {Q : Hp → Prop} {l1 l3 : Int} {h : Hp} (hw : g_X4_nextToken_b197 x0 Q l1 l3 h) : Wx G X h0 (QV Q) h 197 [some (rV x0), some (iV l1), none, some (iV l3)] [] := by
  refine Wx.start (fun EB => ?_)
  unfold g_X4_nextToken_b197 at hw
  refine x_aload_n HE 0 dX4_nextToken_197 rfl rfl ?_
  refine x_iload_n HE 1 dX4_nextToken_198 rfl rfl ?_
  refine x_pI HE dX4_nextToken_199 fd_X4_5 q1842 (Or.inl rfl) (Or.inl rfl) (nf_int _) (Lay_X4.tag (f0.ext EB)) (nro (by decide)) (Or.inl nf_X4_5) (fun m199 em199 E199 => ?_)
  have hw := hw m199 em199
  refine x_aload_n HE 0 dX4_nextToken_202 rfl rfl ?_
  refine x_iload_n HE 3 dX4_nextToken_203 rfl rfl ?_
  refine x_iconst HE dX4_nextToken_204 (by decide) ?_
  refine x_ic_le HE 212 dX4_nextToken_205 (by decide) (fun c205 => ?_) (fun c205 => ?_)
  · have hw := hw.1 c205
    refine x_iconst HE dX4_nextToken_212 (by decide) ?_
    refine Wx.mask [true, false, true, false] (lo2 := [some (rV x0), none, none, none]) rfl ?_
    exact w_X4_nextToken_213 HE hr f0 hw
  · have hw := hw.2 c205
    refine x_iconst HE dX4_nextToken_208 (by decide) ?_
    refine x_goto HE 213 dX4_nextToken_209 (by decide) ?_
    refine Wx.mask [true, false, true, false] (lo2 := [some (rV x0), none, none, none]) rfl ?_
    exact w_X4_nextToken_213 HE hr f0 hw
def g_X4_nextToken_b188 (x0 : Int) (Q : Hp → Prop) (K152 : Int → Int → Hp → Prop) (l1 l3 : Int) (h : Hp) : Prop :=
  (i32 (l3 + 1)) ∧ (∀ y188 : Int, y188 = l3 + 1 → ((i32 (l1 + 1)) ∧ (∀ y191 : Int, y191 = l1 + 1 → (K152 y191 y188 h))))
theorem w_X4_nextToken_188 {G : GT} {X : ET} {h0 : Hp} {x0 : Int} (HE : XE G X cX4_nextToken 4 RX4 1 21 h0) (hr : XR X none) (f0 : Lay_X4 h0 x0) {Q : Hp → Prop} {K152 : Int → Int → Hp → Prop} (hK152 : ∀ (l1 l3 : Int) (h : Hp), K152 l1 l3 h → Wx G X h0 (QV Q) h 152 [some (rV x0), some (iV l1), none, some (iV l3)] []) {l1 l3 : Int} {h : Hp} (hw : g_X4_nextToken_b188 x0 Q K152 l1 l3 h) : Wx G X h0 (QV Q) h 188 [some (rV x0), some (iV l1), none, some (iV l3)] [] := by
  refine Wx.start (fun EB => ?_)
  unfold g_X4_nextToken_b188 at hw
  obtain ⟨v188, hw⟩ := hw
  refine x_iincN HE (fun y188 => [some (rV x0), some (iV l1), none, some (iV y188)]) dX4_nextToken_188 rfl v188 (Nat.le_of_ble_eq_true rfl) (fun _ => rfl) (fun y188 ey188 => ?_)
  have hw := hw y188 ey188
  obtain ⟨v191, hw⟩ := hw
  refine x_iincN HE (fun y191 => [some (rV x0), some (iV y191), none, some (iV y188)]) dX4_nextToken_191 rfl v191 (Nat.le_of_ble_eq_true rfl) (fun _ => rfl) (fun y191 ey191 => ?_)
  have hw := hw y191 ey191
  refine x_goto HE 152 dX4_nextToken_194 (by decide) ?_
  exact hK152 _ _ _ hw
def g_X4_nextToken_L152 (x0 : Int) (Q : Hp → Prop) (K152 : Int → Int → Hp → Prop) (l1 l3 : Int) (h : Hp) : Prop :=
  g_X4_seen x0 l1 (fun r154 m154 => Ext h m154 → (g_X4_isDigit r154 (fun r157 m157 => Ext m154 m157 → (((r157 = 0) → (g_X4_nextToken_b197 x0 Q l1 l3 m157)) ∧ ((r157 ≠ 0) → (((3 ≤ l3) → (g_X4_nextToken_b188 x0 Q K152 l1 l3 m157)) ∧ ((l3 < 3) → ((i32 (10 * (hF m157 x0 7))) ∧ (g_X4_seen x0 l1 (fun r178 m178 => Ext m157 m178 → ((i32 ((10 * (hF m157 x0 7)) + r178)) ∧ ((i32 (((10 * (hF m157 x0 7)) + r178) - 48)) ∧ (∀ m185 : Hp, m185 = setF m178 x0 7 (((10 * (hF m157 x0 7)) + r178) - 48) → (g_X4_nextToken_b188 x0 Q K152 l1 l3 m185))))) m157))))))) m154)) h
theorem w_X4_nextToken_152 {G : GT} {X : ET} {h0 : Hp} {x0 : Int} (HE : XE G X cX4_nextToken 4 RX4 1 21 h0) (hr : XR X none) (f0 : Lay_X4 h0 x0) {Q : Hp → Prop} {K152 : Int → Int → Hp → Prop} (hK152 : ∀ (l1 l3 : Int) (h : Hp), K152 l1 l3 h → Wx G X h0 (QV Q) h 152 [some (rV x0), some (iV l1), none, some (iV l3)] []) {l1 l3 : Int} {h : Hp} (hw : g_X4_nextToken_L152 x0 Q K152 l1 l3 h) : Wx G X h0 (QV Q) h 152 [some (rV x0), some (iV l1), none, some (iV l3)] [] := by
  refine Wx.start (fun EB => ?_)
  unfold g_X4_nextToken_L152 at hw
  refine x_aload_n HE 0 dX4_nextToken_152 rfl rfl ?_
  refine x_iload_n HE 1 dX4_nextToken_153 rfl rfl ?_
  refine x_callV HE dX4_nextToken_154 rfl (fun l => k_X4_seen (f0.ext EB) l hw) (As := [iV l1]) (rest := []) rfl xc10 (Lay_X4.tag (f0.ext EB)) (lw_V q1970 q1972 qs58 q129 q1973) hy_X4_seen rfl rfl (Nat.le_of_ble_eq_true rfl) (Nat.le_of_ble_eq_true rfl) (Nat.le_of_ble_eq_true rfl) (kkI (fun r154 m154 E154 hw => ?_))
  have hw := hw E154
  refine x_callS HE dX4_nextToken_157 rfl (fun l => k_X4_isDigit  l hw) (As := [iV r154]) (rest := []) rfl (lw_S q1977 q1978 q129 q1979) hy_X4_isDigit.2 rfl rfl (Nat.le_of_ble_eq_true rfl) (Nat.le_of_ble_eq_true rfl) (Nat.le_of_ble_eq_true rfl) (kkI (fun r157 m157 E157 hw => ?_))
  have hw := hw E157
  refine x_if_eq HE 197 dX4_nextToken_160 (by decide) (fun c160 => ?_) (fun c160 => ?_)
  · have hw := hw.1 c160
    exact w_X4_nextToken_197 HE hr f0 hw
  · have hw := hw.2 c160
    refine x_iload_n HE 3 dX4_nextToken_163 rfl rfl ?_
    refine x_iconst HE dX4_nextToken_164 (by decide) ?_
    refine x_ic_ge HE 188 dX4_nextToken_165 (by decide) (fun c165 => ?_) (fun c165 => ?_)
    · have hw := hw.1 c165
      exact w_X4_nextToken_188 HE hr f0 hK152 hw
    · have hw := hw.2 c165
      refine x_aload_n HE 0 dX4_nextToken_168 rfl rfl ?_
      refine x_bipush HE dX4_nextToken_169 (by decide) ?_
      refine x_aload_n HE 0 dX4_nextToken_171 rfl rfl ?_
      refine x_gI HE dX4_nextToken_172 fd_X4_7 q1844 (Or.inl rfl) (Lay_X4.tag (f0.ext (EB.tr (E154.tr E157)))) rfl ?_
      obtain ⟨v175, hw⟩ := hw
      refine x_imul HE dX4_nextToken_175 v175 ?_
      refine x_aload_n HE 0 dX4_nextToken_176 rfl rfl ?_
      refine x_iload_n HE 1 dX4_nextToken_177 rfl rfl ?_
      refine x_callV HE dX4_nextToken_178 rfl (fun l => k_X4_seen (f0.ext (EB.tr (E154.tr E157))) l hw) (As := [iV l1]) (rest := [iV (10 * (hF m157 x0 7)), rV x0]) rfl xc10 (Lay_X4.tag (f0.ext (EB.tr (E154.tr E157)))) (lw_V q1970 q1972 qs58 q129 q1973) hy_X4_seen rfl rfl (Nat.le_of_ble_eq_true rfl) (Nat.le_of_ble_eq_true rfl) (Nat.le_of_ble_eq_true rfl) (kkI (fun r178 m178 E178 hw => ?_))
      have hw := hw E178
      obtain ⟨v181, hw⟩ := hw
      refine x_iadd HE dX4_nextToken_181 v181 ?_
      refine x_bipush HE dX4_nextToken_182 (by decide) ?_
      obtain ⟨v184, hw⟩ := hw
      refine x_isub HE dX4_nextToken_184 v184 ?_
      refine x_pI HE dX4_nextToken_185 fd_X4_7 q1844 (Or.inl rfl) (Or.inl rfl) (nf_int _) (Lay_X4.tag (f0.ext (EB.tr (E154.tr (E157.tr E178))))) (nro (by decide)) (Or.inl nf_X4_7) (fun m185 em185 E185 => ?_)
      have hw := hw m185 em185
      exact w_X4_nextToken_188 HE hr f0 hK152 hw
theorem wl_X4_nextToken_152 {G : GT} {X : ET} {h0 : Hp} {x0 : Int} (HE : XE G X cX4_nextToken 4 RX4 1 21 h0) (hr : XR X none) (f0 : Lay_X4 h0 x0) {Q : Hp → Prop} {l1 l3 : Int} {h : Hp} (hw : Lp2 (g_X4_nextToken_L152 x0 Q) l1 l3 h) : Wx G X h0 (QV Q) h 152 [some (rV x0), some (iV l1), none, some (iV l3)] [] := by
  obtain ⟨n, hw⟩ := hw
  induction n generalizing l1 l3 h with
  | zero => exact hw.elim
  | succ n ih => exact w_X4_nextToken_152 HE hr f0 (fun _ _ _ hk => ih hk) hw
def g_X4_nextToken_b137 (x0 : Int) (Q : Hp → Prop) (s0 s1 : Int) (h : Hp) : Prop :=
  (Lay_X4 h s0) ∧ (∀ m137 : Hp, m137 = setF h s0 6 s1 → (g_X4_nextToken_b247 x0 Q m137))
theorem w_X4_nextToken_137 {G : GT} {X : ET} {h0 : Hp} {x0 : Int} (HE : XE G X cX4_nextToken 4 RX4 1 21 h0) (hr : XR X none) (f0 : Lay_X4 h0 x0) {Q : Hp → Prop} {s0 s1 : Int} {h : Hp} (hw : g_X4_nextToken_b137 x0 Q s0 s1 h) : Wx G X h0 (QV Q) h 137 [some (rV x0), none, none, none] [iV s1, rV s0] := by
  refine Wx.start (fun EB => ?_)
  unfold g_X4_nextToken_b137 at hw
  obtain ⟨v137, hw⟩ := hw
  refine x_pI HE dX4_nextToken_137 fd_X4_6 q1843 (Or.inl rfl) (Or.inl rfl) (nf_int _) (Lay_X4.tag v137) (nro (by decide)) (Or.inl nf_X4_6) (fun m137 em137 E137 => ?_)
  have hw := hw m137 em137
  refine x_goto HE 247 dX4_nextToken_140 (by decide) ?_
  exact w_X4_nextToken_247 HE hr f0 hw
def g_X4_nextToken_b117 (x0 : Int) (Q : Hp → Prop) (l1 : Int) (h : Hp) : Prop :=
  ∀ m119 : Hp, m119 = setF h x0 5 l1 → ((((hF m119 x0 8) ≤ 8) → (g_X4_nextToken_b137 x0 Q x0 2 m119)) ∧ ((8 < (hF m119 x0 8)) → (g_X4_nextToken_b137 x0 Q x0 1 m119)))
theorem w_X4_nextToken_117 {G : GT} {X : ET} {h0 : Hp} {x0 : Int} (HE : XE G X cX4_nextToken 4 RX4 1 21 h0) (hr : XR X none) (f0 : Lay_X4 h0 x0) {Q : Hp → Prop} {l1 : Int} {h : Hp} (hw : g_X4_nextToken_b117 x0 Q l1 h) : Wx G X h0 (QV Q) h 117 [some (rV x0), some (iV l1), none, none] [] := by
  refine Wx.start (fun EB => ?_)
  unfold g_X4_nextToken_b117 at hw
  refine x_aload_n HE 0 dX4_nextToken_117 rfl rfl ?_
  refine x_iload_n HE 1 dX4_nextToken_118 rfl rfl ?_
  refine x_pI HE dX4_nextToken_119 fd_X4_5 q1842 (Or.inl rfl) (Or.inl rfl) (nf_int _) (Lay_X4.tag (f0.ext EB)) (nro (by decide)) (Or.inl nf_X4_5) (fun m119 em119 E119 => ?_)
  have hw := hw m119 em119
  refine x_aload_n HE 0 dX4_nextToken_122 rfl rfl ?_
  refine x_aload_n HE 0 dX4_nextToken_123 rfl rfl ?_
  refine x_gI HE dX4_nextToken_124 fd_X4_8 q1845 (Or.inl rfl) (Lay_X4.tag (f0.ext (EB.tr E119))) rfl ?_
  refine x_bipush HE dX4_nextToken_127 (by decide) ?_
  refine x_ic_le HE 136 dX4_nextToken_129 (by decide) (fun c129 => ?_) (fun c129 => ?_)
  · have hw := hw.1 c129
    refine x_iconst HE dX4_nextToken_136 (by decide) ?_
    refine Wx.mask [true, false, true, true] (lo2 := [some (rV x0), none, none, none]) rfl ?_
    exact w_X4_nextToken_137 HE hr f0 hw
  · have hw := hw.2 c129
    refine x_iconst HE dX4_nextToken_132 (by decide) ?_
    refine x_goto HE 137 dX4_nextToken_133 (by decide) ?_
    refine Wx.mask [true, false, true, true] (lo2 := [some (rV x0), none, none, none]) rfl ?_
    exact w_X4_nextToken_137 HE hr f0 hw
def g_X4_nextToken_b101 (x0 : Int) (Q : Hp → Prop) (K67 : Int → Hp → Prop) (l1 : Int) (h : Hp) : Prop :=
  (i32 ((hF h x0 8) + 1)) ∧ (∀ m108 : Hp, m108 = setF h x0 8 ((hF h x0 8) + 1) → ((i32 (l1 + 1)) ∧ (∀ y111 : Int, y111 = l1 + 1 → (K67 y111 m108))))
theorem w_X4_nextToken_101 {G : GT} {X : ET} {h0 : Hp} {x0 : Int} (HE : XE G X cX4_nextToken 4 RX4 1 21 h0) (hr : XR X none) (f0 : Lay_X4 h0 x0) {Q : Hp → Prop} {K67 : Int → Hp → Prop} (hK67 : ∀ (l1 : Int) (h : Hp), K67 l1 h → Wx G X h0 (QV Q) h 67 [some (rV x0), some (iV l1), none, none] []) {l1 : Int} {h : Hp} (hw : g_X4_nextToken_b101 x0 Q K67 l1 h) : Wx G X h0 (QV Q) h 101 [some (rV x0), some (iV l1), none, none] [] := by
  refine Wx.start (fun EB => ?_)
  unfold g_X4_nextToken_b101 at hw
  refine x_aload_n HE 0 dX4_nextToken_101 rfl rfl ?_
  refine x_dup HE dX4_nextToken_102 (fun o => o) ?_
  refine x_gI HE dX4_nextToken_103 fd_X4_8 q1845 (Or.inl rfl) (Lay_X4.tag (f0.ext EB)) rfl ?_
  refine x_iconst HE dX4_nextToken_106 (by decide) ?_
  obtain ⟨v107, hw⟩ := hw
  refine x_iadd HE dX4_nextToken_107 v107 ?_
  refine x_pI HE dX4_nextToken_108 fd_X4_8 q1845 (Or.inl rfl) (Or.inl rfl) (nf_int _) (Lay_X4.tag (f0.ext EB)) (nro (by decide)) (Or.inl nf_X4_8) (fun m108 em108 E108 => ?_)
  have hw := hw m108 em108
  obtain ⟨v111, hw⟩ := hw
  refine x_iincN HE (fun y111 => [some (rV x0), some (iV y111), none, none]) dX4_nextToken_111 rfl v111 (Nat.le_of_ble_eq_true rfl) (fun _ => rfl) (fun y111 ey111 => ?_)
  have hw := hw y111 ey111
  refine x_goto HE 67 dX4_nextToken_114 (by decide) ?_
  exact hK67 _ _ hw
def g_X4_nextToken_L67 (x0 : Int) (Q : Hp → Prop) (K67 : Int → Hp → Prop) (l1 : Int) (h : Hp) : Prop :=
  g_X4_seen x0 l1 (fun r69 m69 => Ext h m69 → (g_X4_isSmall r69 (fun r72 m72 => Ext m69 m72 → (((r72 = 0) → (g_X4_nextToken_b117 x0 Q l1 m72)) ∧ ((r72 ≠ 0) → (((8 ≤ (hF m72 x0 8)) → (g_X4_nextToken_b101 x0 Q K67 l1 m72)) ∧ (((hF m72 x0 8) < 8) → (g_X4_seen x0 l1 (fun r97 m97 => Ext m72 m97 → (((0 : Int) ≤ (hF m72 x0 8) ∧ (hF m72 x0 8) < 8) ∧ (∀ m100 : Hp, m100 = setA m97 (x0 + 2) (hF m72 x0 8) r97 → (g_X4_nextToken_b101 x0 Q K67 l1 m100)))) m72)))))) m69)) h
theorem w_X4_nextToken_67 {G : GT} {X : ET} {h0 : Hp} {x0 : Int} (HE : XE G X cX4_nextToken 4 RX4 1 21 h0) (hr : XR X none) (f0 : Lay_X4 h0 x0) {Q : Hp → Prop} {K67 : Int → Hp → Prop} (hK67 : ∀ (l1 : Int) (h : Hp), K67 l1 h → Wx G X h0 (QV Q) h 67 [some (rV x0), some (iV l1), none, none] []) {l1 : Int} {h : Hp} (hw : g_X4_nextToken_L67 x0 Q K67 l1 h) : Wx G X h0 (QV Q) h 67 [some (rV x0), some (iV l1), none, none] [] := by
  refine Wx.start (fun EB => ?_)
  unfold g_X4_nextToken_L67 at hw
  refine x_aload_n HE 0 dX4_nextToken_67 rfl rfl ?_
  refine x_iload_n HE 1 dX4_nextToken_68 rfl rfl ?_
  refine x_callV HE dX4_nextToken_69 rfl (fun l => k_X4_seen (f0.ext EB) l hw) (As := [iV l1]) (rest := []) rfl xc10 (Lay_X4.tag (f0.ext EB)) (lw_V q1970 q1972 qs58 q129 q1973) hy_X4_seen rfl rfl (Nat.le_of_ble_eq_true rfl) (Nat.le_of_ble_eq_true rfl) (Nat.le_of_ble_eq_true rfl) (kkI (fun r69 m69 E69 hw => ?_))
  have hw := hw E69
  refine x_callS HE dX4_nextToken_72 rfl (fun l => k_X4_isSmall  l hw) (As := [iV r69]) (rest := []) rfl (lw_S q1974 q1975 q129 q1976) hy_X4_isSmall.2 rfl rfl (Nat.le_of_ble_eq_true rfl) (Nat.le_of_ble_eq_true rfl) (Nat.le_of_ble_eq_true rfl) (kkI (fun r72 m72 E72 hw => ?_))
  have hw := hw E72
  refine x_if_eq HE 117 dX4_nextToken_75 (by decide) (fun c75 => ?_) (fun c75 => ?_)
  · have hw := hw.1 c75
    exact w_X4_nextToken_117 HE hr f0 hw
  · have hw := hw.2 c75
    refine x_aload_n HE 0 dX4_nextToken_78 rfl rfl ?_
    refine x_gI HE dX4_nextToken_79 fd_X4_8 q1845 (Or.inl rfl) (Lay_X4.tag (f0.ext (EB.tr (E69.tr E72)))) rfl ?_
    refine x_bipush HE dX4_nextToken_82 (by decide) ?_
    refine x_ic_ge HE 101 dX4_nextToken_84 (by decide) (fun c84 => ?_) (fun c84 => ?_)
    · have hw := hw.1 c84
      exact w_X4_nextToken_101 HE hr f0 hK67 hw
    · have hw := hw.2 c84
      refine x_aload_n HE 0 dX4_nextToken_87 rfl rfl ?_
      refine x_gR HE dX4_nextToken_88 fd_X4_12 q1849 (Or.inl rfl) (Lay_X4.tag (f0.ext (EB.tr (E69.tr E72)))) (Lay_X4_12 (f0.ext (EB.tr (E69.tr E72)))).1 ?_
      refine x_aload_n HE 0 dX4_nextToken_91 rfl rfl ?_
      refine x_gI HE dX4_nextToken_92 fd_X4_8 q1845 (Or.inl rfl) (Lay_X4.tag (f0.ext (EB.tr (E69.tr E72)))) rfl ?_
      refine x_aload_n HE 0 dX4_nextToken_95 rfl rfl ?_
      refine x_iload_n HE 1 dX4_nextToken_96 rfl rfl ?_
      refine x_callV HE dX4_nextToken_97 rfl (fun l => k_X4_seen (f0.ext (EB.tr (E69.tr E72))) l hw) (As := [iV l1]) (rest := [iV (hF m72 x0 8), rV (x0 + 2)]) rfl xc10 (Lay_X4.tag (f0.ext (EB.tr (E69.tr E72)))) (lw_V q1970 q1972 qs58 q129 q1973) hy_X4_seen rfl rfl (Nat.le_of_ble_eq_true rfl) (Nat.le_of_ble_eq_true rfl) (Nat.le_of_ble_eq_true rfl) (kkI (fun r97 m97 E97 hw => ?_))
      have hw := hw E97
      obtain ⟨i100, hw⟩ := hw
      refine x_iast HE dX4_nextToken_100 ((Lay_X4_12 (f0.ext (EB.tr (E69.tr (E72.tr E97))))).2.1) (ix_of ((Lay_X4_12 (f0.ext (EB.tr (E69.tr (E72.tr E97))))).2.2) i100) (fun m100 em100 E100 => ?_)
      have hw := hw m100 em100
      exact w_X4_nextToken_101 HE hr f0 hK67 hw
theorem wl_X4_nextToken_67 {G : GT} {X : ET} {h0 : Hp} {x0 : Int} (HE : XE G X cX4_nextToken 4 RX4 1 21 h0) (hr : XR X none) (f0 : Lay_X4 h0 x0) {Q : Hp → Prop} {l1 : Int} {h : Hp} (hw : Lp1 (g_X4_nextToken_L67 x0 Q) l1 h) : Wx G X h0 (QV Q) h 67 [some (rV x0), some (iV l1), none, none] [] := by
  obtain ⟨n, hw⟩ := hw
  induction n generalizing l1 h with
  | zero => exact hw.elim
  | succ n ih => exact w_X4_nextToken_67 HE hr f0 (fun _ _ hk => ih hk) hw
def g_X4_nextToken_b21 (x0 : Int) (Q : Hp → Prop) (l1 : Int) (h : Hp) : Prop :=
  ∀ m23 : Hp, m23 = setF h x0 4 l1 → (g_X4_seen x0 l1 (fun r28 m28 => Ext m23 m28 → (∀ m34 : Hp, m34 = setF m28 x0 8 0 → (∀ m39 : Hp, m39 = setF m34 x0 7 0 → (((r28 ≠ (-1)) → (g_X4_isSmall r28 (fun r61 m61 => Ext m39 m61 → (((r61 = 0) → (g_X4_isDigit r28 (fun r144 m144 => Ext m61 m144 → (((r144 = 0) → ((i32 (l1 + 1)) ∧ (∀ m223 : Hp, m223 = setF m144 x0 5 (l1 + 1) → (((r28 = 59) → (g_X4_nextToken_b239 x0 Q r28 x0 m223)) ∧ ((r28 ≠ 59) → (((r28 ≠ 44) → (g_X4_nextToken_b244 x0 Q x0 1 m223)) ∧ ((r28 = 44) → (g_X4_nextToken_b239 x0 Q r28 x0 m223)))))))) ∧ ((r144 ≠ 0) → (Lp2 (g_X4_nextToken_L152 x0 Q) l1 0 m144)))) m61)) ∧ ((r61 ≠ 0) → (Lp1 (g_X4_nextToken_L67 x0 Q) l1 m61)))) m39)) ∧ ((r28 = (-1)) → (∀ m49 : Hp, m49 = setF m39 x0 6 0 → (∀ m54 : Hp, m54 = setF m49 x0 5 l1 → (g_X4_nextToken_b247 x0 Q m54)))))))) m23)
theorem w_X4_nextToken_21 {G : GT} {X : ET} {h0 : Hp} {x0 : Int} (HE : XE G X cX4_nextToken 4 RX4 1 21 h0) (hr : XR X none) (f0 : Lay_X4 h0 x0) {Q : Hp → Prop} {l1 : Int} {h : Hp} (hw : g_X4_nextToken_b21 x0 Q l1 h) : Wx G X h0 (QV Q) h 21 [some (rV x0), some (iV l1), none, none] [] := by
  refine Wx.start (fun EB => ?_)
  unfold g_X4_nextToken_b21 at hw
  refine x_aload_n HE 0 dX4_nextToken_21 rfl rfl ?_
  refine x_iload_n HE 1 dX4_nextToken_22 rfl rfl ?_
  refine x_pI HE dX4_nextToken_23 fd_X4_4 q1841 (Or.inl rfl) (Or.inl rfl) (nf_int _) (Lay_X4.tag (f0.ext EB)) (nro (by decide)) (Or.inl nf_X4_4) (fun m23 em23 E23 => ?_)
  have hw := hw m23 em23
  refine x_aload_n HE 0 dX4_nextToken_26 rfl rfl ?_
  refine x_iload_n HE 1 dX4_nextToken_27 rfl rfl ?_
  refine x_callV HE dX4_nextToken_28 rfl (fun l => k_X4_seen (f0.ext (EB.tr E23)) l hw) (As := [iV l1]) (rest := []) rfl xc10 (Lay_X4.tag (f0.ext (EB.tr E23))) (lw_V q1970 q1972 qs58 q129 q1973) hy_X4_seen rfl rfl (Nat.le_of_ble_eq_true rfl) (Nat.le_of_ble_eq_true rfl) (Nat.le_of_ble_eq_true rfl) (kkI (fun r28 m28 E28 hw => ?_))
  have hw := hw E28
  refine x_istore_n HE 2 (lo' := [some (rV x0), some (iV l1), some (iV r28), none]) dX4_nextToken_31 rfl (Nat.le_of_ble_eq_true rfl) rfl ?_
  refine x_aload_n HE 0 dX4_nextToken_32 rfl rfl ?_
  refine x_iconst HE dX4_nextToken_33 (by decide) ?_
  refine x_pI HE dX4_nextToken_34 fd_X4_8 q1845 (Or.inl rfl) (Or.inl rfl) (nf_int _) (Lay_X4.tag (f0.ext (EB.tr (E23.tr E28)))) (nro (by decide)) (Or.inl nf_X4_8) (fun m34 em34 E34 => ?_)
  have hw := hw m34 em34
  refine x_aload_n HE 0 dX4_nextToken_37 rfl rfl ?_
  refine x_iconst HE dX4_nextToken_38 (by decide) ?_
  refine x_pI HE dX4_nextToken_39 fd_X4_7 q1844 (Or.inl rfl) (Or.inl rfl) (nf_int _) (Lay_X4.tag (f0.ext (EB.tr (E23.tr (E28.tr E34))))) (nro (by decide)) (Or.inl nf_X4_7) (fun m39 em39 E39 => ?_)
  have hw := hw m39 em39
  refine x_iload_n HE 2 dX4_nextToken_42 rfl rfl ?_
  refine x_iconst HE dX4_nextToken_43 (by decide) ?_
  refine x_ic_ne HE 60 dX4_nextToken_44 (by decide) (fun c44 => ?_) (fun c44 => ?_)
  · have hw := hw.1 c44
    refine x_iload_n HE 2 dX4_nextToken_60 rfl rfl ?_
    refine x_callS HE dX4_nextToken_61 rfl (fun l => k_X4_isSmall  l hw) (As := [iV r28]) (rest := []) rfl (lw_S q1974 q1975 q129 q1976) hy_X4_isSmall.2 rfl rfl (Nat.le_of_ble_eq_true rfl) (Nat.le_of_ble_eq_true rfl) (Nat.le_of_ble_eq_true rfl) (kkI (fun r61 m61 E61 hw => ?_))
    have hw := hw E61
    refine x_if_eq HE 143 dX4_nextToken_64 (by decide) (fun c64 => ?_) (fun c64 => ?_)
    · have hw := hw.1 c64
      refine x_iload_n HE 2 dX4_nextToken_143 rfl rfl ?_
      refine x_callS HE dX4_nextToken_144 rfl (fun l => k_X4_isDigit  l hw) (As := [iV r28]) (rest := []) rfl (lw_S q1977 q1978 q129 q1979) hy_X4_isDigit.2 rfl rfl (Nat.le_of_ble_eq_true rfl) (Nat.le_of_ble_eq_true rfl) (Nat.le_of_ble_eq_true rfl) (kkI (fun r144 m144 E144 hw => ?_))
      have hw := hw E144
      refine x_if_eq HE 219 dX4_nextToken_147 (by decide) (fun c147 => ?_) (fun c147 => ?_)
      · have hw := hw.1 c147
        refine x_aload_n HE 0 dX4_nextToken_219 rfl rfl ?_
        refine x_iload_n HE 1 dX4_nextToken_220 rfl rfl ?_
        refine x_iconst HE dX4_nextToken_221 (by decide) ?_
        obtain ⟨v222, hw⟩ := hw
        refine x_iadd HE dX4_nextToken_222 v222 ?_
        refine x_pI HE dX4_nextToken_223 fd_X4_5 q1842 (Or.inl rfl) (Or.inl rfl) (nf_int _) (Lay_X4.tag (f0.ext (EB.tr (E23.tr (E28.tr (E34.tr (E39.tr (E61.tr E144)))))))) (nro (by decide)) (Or.inl nf_X4_5) (fun m223 em223 E223 => ?_)
        have hw := hw m223 em223
        refine x_aload_n HE 0 dX4_nextToken_226 rfl rfl ?_
        refine x_iload_n HE 2 dX4_nextToken_227 rfl rfl ?_
        refine x_bipush HE dX4_nextToken_228 (by decide) ?_
        refine x_ic_eq HE 239 dX4_nextToken_230 (by decide) (fun c230 => ?_) (fun c230 => ?_)
        · have hw := hw.1 c230
          refine Wx.mask [true, false, true, true] (lo2 := [some (rV x0), none, some (iV r28), none]) rfl ?_
          exact w_X4_nextToken_239 HE hr f0 hw
        · have hw := hw.2 c230
          refine x_iload_n HE 2 dX4_nextToken_233 rfl rfl ?_
          refine x_bipush HE dX4_nextToken_234 (by decide) ?_
          refine x_ic_ne HE 243 dX4_nextToken_236 (by decide) (fun c236 => ?_) (fun c236 => ?_)
          · have hw := hw.1 c236
            refine x_iconst HE dX4_nextToken_243 (by decide) ?_
            refine Wx.mask [true, false, false, true] (lo2 := [some (rV x0), none, none, none]) rfl ?_
            exact w_X4_nextToken_244 HE hr f0 hw
          · have hw := hw.2 c236
            refine Wx.mask [true, false, true, true] (lo2 := [some (rV x0), none, some (iV r28), none]) rfl ?_
            exact w_X4_nextToken_239 HE hr f0 hw
      · have hw := hw.2 c147
        refine x_iconst HE dX4_nextToken_150 (by decide) ?_
        refine x_istore_n HE 3 (lo' := [some (rV x0), some (iV l1), some (iV r28), some (iV 0)]) dX4_nextToken_151 rfl (Nat.le_of_ble_eq_true rfl) rfl ?_
        refine Wx.mask [true, true, false, true] (lo2 := [some (rV x0), some (iV l1), none, some (iV 0)]) rfl ?_
        exact wl_X4_nextToken_152 HE hr f0 hw
    · have hw := hw.2 c64
      refine Wx.mask [true, true, false, true] (lo2 := [some (rV x0), some (iV l1), none, none]) rfl ?_
      exact wl_X4_nextToken_67 HE hr f0 hw
  · have hw := hw.2 c44
    refine x_aload_n HE 0 dX4_nextToken_47 rfl rfl ?_
    refine x_iconst HE dX4_nextToken_48 (by decide) ?_
    refine x_pI HE dX4_nextToken_49 fd_X4_6 q1843 (Or.inl rfl) (Or.inl rfl) (nf_int _) (Lay_X4.tag (f0.ext (EB.tr (E23.tr (E28.tr (E34.tr E39)))))) (nro (by decide)) (Or.inl nf_X4_6) (fun m49 em49 E49 => ?_)
    have hw := hw m49 em49
    refine x_aload_n HE 0 dX4_nextToken_52 rfl rfl ?_
    refine x_iload_n HE 1 dX4_nextToken_53 rfl rfl ?_
    refine x_pI HE dX4_nextToken_54 fd_X4_5 q1842 (Or.inl rfl) (Or.inl rfl) (nf_int _) (Lay_X4.tag (f0.ext (EB.tr (E23.tr (E28.tr (E34.tr (E39.tr E49))))))) (nro (by decide)) (Or.inl nf_X4_5) (fun m54 em54 E54 => ?_)
    have hw := hw m54 em54
    refine x_goto HE 247 dX4_nextToken_57 (by decide) ?_
    refine Wx.mask [true, false, false, true] (lo2 := [some (rV x0), none, none, none]) rfl ?_
    exact w_X4_nextToken_247 HE hr f0 hw
def g_X4_nextToken_L5 (x0 : Int) (Q : Hp → Prop) (K5 : Int → Hp → Prop) (l1 : Int) (h : Hp) : Prop :=
  g_X4_seen x0 l1 (fun r7 m7 => Ext h m7 → (((r7 ≠ 32) → (g_X4_nextToken_b21 x0 Q l1 m7)) ∧ ((r7 = 32) → ((i32 (l1 + 1)) ∧ (∀ y15 : Int, y15 = l1 + 1 → (K5 y15 m7)))))) h
theorem w_X4_nextToken_5 {G : GT} {X : ET} {h0 : Hp} {x0 : Int} (HE : XE G X cX4_nextToken 4 RX4 1 21 h0) (hr : XR X none) (f0 : Lay_X4 h0 x0) {Q : Hp → Prop} {K5 : Int → Hp → Prop} (hK5 : ∀ (l1 : Int) (h : Hp), K5 l1 h → Wx G X h0 (QV Q) h 5 [some (rV x0), some (iV l1), none, none] []) {l1 : Int} {h : Hp} (hw : g_X4_nextToken_L5 x0 Q K5 l1 h) : Wx G X h0 (QV Q) h 5 [some (rV x0), some (iV l1), none, none] [] := by
  refine Wx.start (fun EB => ?_)
  unfold g_X4_nextToken_L5 at hw
  refine x_aload_n HE 0 dX4_nextToken_5 rfl rfl ?_
  refine x_iload_n HE 1 dX4_nextToken_6 rfl rfl ?_
  refine x_callV HE dX4_nextToken_7 rfl (fun l => k_X4_seen (f0.ext EB) l hw) (As := [iV l1]) (rest := []) rfl xc10 (Lay_X4.tag (f0.ext EB)) (lw_V q1970 q1972 qs58 q129 q1973) hy_X4_seen rfl rfl (Nat.le_of_ble_eq_true rfl) (Nat.le_of_ble_eq_true rfl) (Nat.le_of_ble_eq_true rfl) (kkI (fun r7 m7 E7 hw => ?_))
  have hw := hw E7
  refine x_bipush HE dX4_nextToken_10 (by decide) ?_
  refine x_ic_ne HE 21 dX4_nextToken_12 (by decide) (fun c12 => ?_) (fun c12 => ?_)
  · have hw := hw.1 c12
    exact w_X4_nextToken_21 HE hr f0 hw
  · have hw := hw.2 c12
    obtain ⟨v15, hw⟩ := hw
    refine x_iincN HE (fun y15 => [some (rV x0), some (iV y15), none, none]) dX4_nextToken_15 rfl v15 (Nat.le_of_ble_eq_true rfl) (fun _ => rfl) (fun y15 ey15 => ?_)
    have hw := hw y15 ey15
    refine x_goto HE 5 dX4_nextToken_18 (by decide) ?_
    exact hK5 _ _ hw
theorem wl_X4_nextToken_5 {G : GT} {X : ET} {h0 : Hp} {x0 : Int} (HE : XE G X cX4_nextToken 4 RX4 1 21 h0) (hr : XR X none) (f0 : Lay_X4 h0 x0) {Q : Hp → Prop} {l1 : Int} {h : Hp} (hw : Lp1 (g_X4_nextToken_L5 x0 Q) l1 h) : Wx G X h0 (QV Q) h 5 [some (rV x0), some (iV l1), none, none] [] := by
  obtain ⟨n, hw⟩ := hw
  induction n generalizing l1 h with
  | zero => exact hw.elim
  | succ n ih => exact w_X4_nextToken_5 HE hr f0 (fun _ _ hk => ih hk) hw
def g_X4_nextToken (x0 : Int) (Q : Hp → Prop) (h : Hp) : Prop :=
  ∀ y4 : Int, y4 = (hF h x0 5) → (Lp1 (g_X4_nextToken_L5 x0 Q) y4 h)
theorem w_X4_nextToken_0 {G : GT} {X : ET} {h0 : Hp} {x0 : Int} (HE : XE G X cX4_nextToken 4 RX4 1 21 h0) (hr : XR X none) (f0 : Lay_X4 h0 x0) {Q : Hp → Prop} {h : Hp} (hw : g_X4_nextToken x0 Q h) : Wx G X h0 (QV Q) h 0 [some (rV x0), none, none, none] [] := by
  refine Wx.start (fun EB => ?_)
  unfold g_X4_nextToken at hw
  refine x_aload_n HE 0 dX4_nextToken_0 rfl rfl ?_
  refine x_gI HE dX4_nextToken_1 fd_X4_5 q1842 (Or.inl rfl) (Lay_X4.tag (f0.ext EB)) rfl ?_
  refine x_istore_nN HE 1 (fun y4 => [some (rV x0), some (iV y4), none, none]) dX4_nextToken_4 rfl (Nat.le_of_ble_eq_true rfl) (fun _ => rfl) (fun y4 ey4 => ?_)
  have hw := hw y4 ey4
  exact wl_X4_nextToken_5 HE hr f0 hw
theorem k_X4_nextToken {G : GT} {x0 : Int} {Q : Hp → Prop} {h : Hp} (f0 : Lay_X4 h x0) (l : Launch) (hw : g_X4_nextToken x0 Q h) : XM G l yX4_nextToken cX4_nextToken 4 none 1 21 [rV x0] (QV Q) h :=
  XM.of (by decide) (Nat.le_of_ble_eq_true rfl) (fun X HE hr hn => w_X4_nextToken_0 HE hr f0 hw)
def g_X4_isWord_b70 (x0 x1 : Int) (Q : Int → Hp → Prop) (l2 : Int) (h : Hp) : Prop :=
  (l2 = 0 ∨ l2 = 1) ∧ Q l2 h
theorem w_X4_isWord_70 {G : GT} {X : ET} {h0 : Hp} {x0 x1 : Int} (HE : XE G X cX4_isWord 4 RX4 4 85 h0) (hr : XR X (some .boolean)) (f0 : Lay_X4 h0 x0) {Q : Int → Hp → Prop} {l2 : Int} {h : Hp} (hw : g_X4_isWord_b70 x0 x1 Q l2 h) : Wx G X h0 (QI Q) h 70 [some (rV x0), some (rV x1), some (iV l2), none] [] := by
  refine Wx.start (fun EB => ?_)
  unfold g_X4_isWord_b70 at hw
  refine x_iload_n HE 2 dX4_isWord_70 rfl rfl ?_
  exact x_zret HE hr dX4_isWord_71 hw.1 hw.2
def g_X4_isWord_b63 (x0 x1 : Int) (Q : Int → Hp → Prop) (K32 : Int → Int → Hp → Prop) (l3 s0 : Int) (h : Hp) : Prop :=
  (i32 (l3 + 1)) ∧ (∀ y64 : Int, y64 = l3 + 1 → (K32 s0 y64 h))
theorem w_X4_isWord_63 {G : GT} {X : ET} {h0 : Hp} {x0 x1 : Int} (HE : XE G X cX4_isWord 4 RX4 4 85 h0) (hr : XR X (some .boolean)) (f0 : Lay_X4 h0 x0) {Q : Int → Hp → Prop} {K32 : Int → Int → Hp → Prop} (hK32 : ∀ (l2 l3 : Int) (h : Hp), K32 l2 l3 h → Wx G X h0 (QI Q) h 32 [some (rV x0), some (rV x1), some (iV l2), some (iV l3)] []) {l3 s0 : Int} {h : Hp} (hw : g_X4_isWord_b63 x0 x1 Q K32 l3 s0 h) : Wx G X h0 (QI Q) h 63 [some (rV x0), some (rV x1), none, some (iV l3)] [iV s0] := by
  refine Wx.start (fun EB => ?_)
  unfold g_X4_isWord_b63 at hw
  refine x_istore_n HE 2 (lo' := [some (rV x0), some (rV x1), some (iV s0), some (iV l3)]) dX4_isWord_63 rfl (Nat.le_of_ble_eq_true rfl) rfl ?_
  obtain ⟨v64, hw⟩ := hw
  refine x_iincN HE (fun y64 => [some (rV x0), some (rV x1), some (iV s0), some (iV y64)]) dX4_isWord_64 rfl v64 (Nat.le_of_ble_eq_true rfl) (fun _ => rfl) (fun y64 ey64 => ?_)
  have hw := hw y64 ey64
  refine x_goto HE 32 dX4_isWord_67 (by decide) ?_
  exact hK32 _ _ _ hw
def g_X4_isWord_b62 (x0 x1 : Int) (Q : Int → Hp → Prop) (K32 : Int → Int → Hp → Prop) (l3 : Int) (h : Hp) : Prop :=
  g_X4_isWord_b63 x0 x1 Q K32 l3 0 h
theorem w_X4_isWord_62 {G : GT} {X : ET} {h0 : Hp} {x0 x1 : Int} (HE : XE G X cX4_isWord 4 RX4 4 85 h0) (hr : XR X (some .boolean)) (f0 : Lay_X4 h0 x0) {Q : Int → Hp → Prop} {K32 : Int → Int → Hp → Prop} (hK32 : ∀ (l2 l3 : Int) (h : Hp), K32 l2 l3 h → Wx G X h0 (QI Q) h 32 [some (rV x0), some (rV x1), some (iV l2), some (iV l3)] []) {l3 : Int} {h : Hp} (hw : g_X4_isWord_b62 x0 x1 Q K32 l3 h) : Wx G X h0 (QI Q) h 62 [some (rV x0), some (rV x1), none, some (iV l3)] [] := by
  refine Wx.start (fun EB => ?_)
  unfold g_X4_isWord_b62 at hw
  refine x_iconst HE dX4_isWord_62 (by decide) ?_
  exact w_X4_isWord_63 HE hr f0 hK32 hw
def g_X4_isWord_L32 (x0 x1 : Int) (Q : Int → Hp → Prop) (K32 : Int → Int → Hp → Prop) (l2 l3 : Int) (h : Hp) : Prop :=
  (((hF h x0 8) ≤ l3) → (g_X4_isWord_b70 x0 x1 Q l2 h)) ∧ ((l3 < (hF h x0 8)) → (((l2 = 0) → (g_X4_isWord_b62 x0 x1 Q K32 l3 h)) ∧ ((l2 ≠ 0) → (((0 : Int) ≤ l3 ∧ l3 < 8) ∧ ((Strg h x1) ∧ (g_J5_charAt x1 l3 (fun r52 m52 => Ext h m52 → ((((hA h (x0 + 2) l3) ≠ r52) → (g_X4_isWord_b62 x0 x1 Q K32 l3 m52)) ∧ (((hA h (x0 + 2) l3) = r52) → (g_X4_isWord_b63 x0 x1 Q K32 l3 1 m52)))) h))))))
theorem w_X4_isWord_32 {G : GT} {X : ET} {h0 : Hp} {x0 x1 : Int} (HE : XE G X cX4_isWord 4 RX4 4 85 h0) (hr : XR X (some .boolean)) (f0 : Lay_X4 h0 x0) {Q : Int → Hp → Prop} {K32 : Int → Int → Hp → Prop} (hK32 : ∀ (l2 l3 : Int) (h : Hp), K32 l2 l3 h → Wx G X h0 (QI Q) h 32 [some (rV x0), some (rV x1), some (iV l2), some (iV l3)] []) {l2 l3 : Int} {h : Hp} (hw : g_X4_isWord_L32 x0 x1 Q K32 l2 l3 h) : Wx G X h0 (QI Q) h 32 [some (rV x0), some (rV x1), some (iV l2), some (iV l3)] [] := by
  refine Wx.start (fun EB => ?_)
  unfold g_X4_isWord_L32 at hw
  refine x_iload_n HE 3 dX4_isWord_32 rfl rfl ?_
  refine x_aload_n HE 0 dX4_isWord_33 rfl rfl ?_
  refine x_gI HE dX4_isWord_34 fd_X4_8 q1845 (Or.inl rfl) (Lay_X4.tag (f0.ext EB)) rfl ?_
  refine x_ic_ge HE 70 dX4_isWord_37 (by decide) (fun c37 => ?_) (fun c37 => ?_)
  · have hw := hw.1 c37
    refine Wx.mask [true, true, true, false] (lo2 := [some (rV x0), some (rV x1), some (iV l2), none]) rfl ?_
    exact w_X4_isWord_70 HE hr f0 hw
  · have hw := hw.2 c37
    refine x_iload_n HE 2 dX4_isWord_40 rfl rfl ?_
    refine x_if_eq HE 62 dX4_isWord_41 (by decide) (fun c41 => ?_) (fun c41 => ?_)
    · have hw := hw.1 c41
      refine Wx.mask [true, true, false, true] (lo2 := [some (rV x0), some (rV x1), none, some (iV l3)]) rfl ?_
      exact w_X4_isWord_62 HE hr f0 hK32 hw
    · have hw := hw.2 c41
      refine x_aload_n HE 0 dX4_isWord_44 rfl rfl ?_
      refine x_gR HE dX4_isWord_45 fd_X4_12 q1849 (Or.inl rfl) (Lay_X4.tag (f0.ext EB)) (Lay_X4_12 (f0.ext EB)).1 ?_
      refine x_iload_n HE 3 dX4_isWord_48 rfl rfl ?_
      obtain ⟨i49, hw⟩ := hw
      refine x_iald HE dX4_isWord_49 (t := 1) (by decide) ((Lay_X4_12 (f0.ext EB)).2.1) (ix_of ((Lay_X4_12 (f0.ext EB)).2.2) i49) rfl ?_
      refine x_aload_n HE 1 dX4_isWord_50 rfl rfl ?_
      refine x_iload_n HE 3 dX4_isWord_51 rfl rfl ?_
      obtain ⟨u52_0, hw⟩ := hw
      refine x_callV (t := hT h x1) HE dX4_isWord_52 rfl (fun l => k_J5_charAt u52_0 l hw) (As := [iV l3]) (rest := [iV (hA h (x0 + 2) l3)]) rfl (Strg.xc u52_0) rfl (lw_V q1997 q1998 q1999 q136 q2000) hy_J5_charAt rfl rfl (Nat.le_of_ble_eq_true rfl) (Nat.le_of_ble_eq_true rfl) (Nat.le_of_ble_eq_true rfl) (kkI (fun r52 m52 E52 hw => ?_))
      have hw := hw E52
      refine x_ic_ne HE 62 dX4_isWord_55 (by decide) (fun c55 => ?_) (fun c55 => ?_)
      · have hw := hw.1 c55
        refine Wx.mask [true, true, false, true] (lo2 := [some (rV x0), some (rV x1), none, some (iV l3)]) rfl ?_
        exact w_X4_isWord_62 HE hr f0 hK32 hw
      · have hw := hw.2 c55
        refine x_iconst HE dX4_isWord_58 (by decide) ?_
        refine x_goto HE 63 dX4_isWord_59 (by decide) ?_
        refine Wx.mask [true, true, false, true] (lo2 := [some (rV x0), some (rV x1), none, some (iV l3)]) rfl ?_
        exact w_X4_isWord_63 HE hr f0 hK32 hw
theorem wl_X4_isWord_32 {G : GT} {X : ET} {h0 : Hp} {x0 x1 : Int} (HE : XE G X cX4_isWord 4 RX4 4 85 h0) (hr : XR X (some .boolean)) (f0 : Lay_X4 h0 x0) {Q : Int → Hp → Prop} {l2 l3 : Int} {h : Hp} (hw : Lp2 (g_X4_isWord_L32 x0 x1 Q) l2 l3 h) : Wx G X h0 (QI Q) h 32 [some (rV x0), some (rV x1), some (iV l2), some (iV l3)] [] := by
  obtain ⟨n, hw⟩ := hw
  induction n generalizing l2 l3 h with
  | zero => exact hw.elim
  | succ n ih => exact w_X4_isWord_32 HE hr f0 (fun _ _ _ hk => ih hk) hw
def g_X4_isWord_b26 (x0 x1 : Int) (Q : Int → Hp → Prop) (h : Hp) : Prop :=
  Q 0 h
theorem w_X4_isWord_26 {G : GT} {X : ET} {h0 : Hp} {x0 x1 : Int} (HE : XE G X cX4_isWord 4 RX4 4 85 h0) (hr : XR X (some .boolean)) (f0 : Lay_X4 h0 x0) {Q : Int → Hp → Prop} {h : Hp} (hw : g_X4_isWord_b26 x0 x1 Q  h) : Wx G X h0 (QI Q) h 26 [some (rV x0), some (rV x1), none, none] [] := by
  refine Wx.start (fun EB => ?_)
  unfold g_X4_isWord_b26 at hw
  refine x_iconst HE dX4_isWord_26 (by decide) ?_
  exact x_zret HE hr dX4_isWord_27 (by decide) hw
def g_X4_isWord (x0 x1 : Int) (Q : Int → Hp → Prop) (h : Hp) : Prop :=
  (((hF h x0 13) ≠ 0) → (g_X4_isWord_b26 x0 x1 Q h)) ∧ (((hF h x0 13) = 0) → ((((hF h x0 6) ≠ 2) → (g_X4_isWord_b26 x0 x1 Q h)) ∧ (((hF h x0 6) = 2) → ((Strg h x1) ∧ (g_J5_length x1 (fun r20 m20 => Ext h m20 → ((((hF h x0 8) = r20) → (Lp2 (g_X4_isWord_L32 x0 x1 Q) 1 0 m20)) ∧ (((hF h x0 8) ≠ r20) → (g_X4_isWord_b26 x0 x1 Q m20)))) h)))))
theorem w_X4_isWord_0 {G : GT} {X : ET} {h0 : Hp} {x0 x1 : Int} (HE : XE G X cX4_isWord 4 RX4 4 85 h0) (hr : XR X (some .boolean)) (f0 : Lay_X4 h0 x0) {Q : Int → Hp → Prop} {h : Hp} (hw : g_X4_isWord x0 x1 Q h) : Wx G X h0 (QI Q) h 0 [some (rV x0), some (rV x1), none, none] [] := by
  refine Wx.start (fun EB => ?_)
  unfold g_X4_isWord at hw
  refine x_aload_n HE 0 dX4_isWord_0 rfl rfl ?_
  refine x_gI HE dX4_isWord_1 fd_X4_13 q1850 (Or.inl rfl) (Lay_X4.tag (f0.ext EB)) rfl ?_
  refine x_if_ne HE 26 dX4_isWord_4 (by decide) (fun c4 => ?_) (fun c4 => ?_)
  · have hw := hw.1 c4
    exact w_X4_isWord_26 HE hr f0 hw
  · have hw := hw.2 c4
    refine x_aload_n HE 0 dX4_isWord_7 rfl rfl ?_
    refine x_gI HE dX4_isWord_8 fd_X4_6 q1843 (Or.inl rfl) (Lay_X4.tag (f0.ext EB)) rfl ?_
    refine x_iconst HE dX4_isWord_11 (by decide) ?_
    refine x_ic_ne HE 26 dX4_isWord_12 (by decide) (fun c12 => ?_) (fun c12 => ?_)
    · have hw := hw.1 c12
      exact w_X4_isWord_26 HE hr f0 hw
    · have hw := hw.2 c12
      refine x_aload_n HE 0 dX4_isWord_15 rfl rfl ?_
      refine x_gI HE dX4_isWord_16 fd_X4_8 q1845 (Or.inl rfl) (Lay_X4.tag (f0.ext EB)) rfl ?_
      refine x_aload_n HE 1 dX4_isWord_19 rfl rfl ?_
      obtain ⟨u20_0, hw⟩ := hw
      refine x_callV (t := hT h x1) HE dX4_isWord_20 rfl (fun l => k_J5_length u20_0 l hw) (As := []) (rest := [iV (hF h x0 8)]) rfl (Strg.xc u20_0) rfl (lw_V q1989 q1990 q1991 q136 q1992) hy_J5_length rfl rfl (Nat.le_of_ble_eq_true rfl) (Nat.le_of_ble_eq_true rfl) (Nat.le_of_ble_eq_true rfl) (kkI (fun r20 m20 E20 hw => ?_))
      have hw := hw E20
      refine x_ic_eq HE 28 dX4_isWord_23 (by decide) (fun c23 => ?_) (fun c23 => ?_)
      · have hw := hw.1 c23
        refine x_iconst HE dX4_isWord_28 (by decide) ?_
        refine x_istore_n HE 2 (lo' := [some (rV x0), some (rV x1), some (iV 1), none]) dX4_isWord_29 rfl (Nat.le_of_ble_eq_true rfl) rfl ?_
        refine x_iconst HE dX4_isWord_30 (by decide) ?_
        refine x_istore_n HE 3 (lo' := [some (rV x0), some (rV x1), some (iV 1), some (iV 0)]) dX4_isWord_31 rfl (Nat.le_of_ble_eq_true rfl) rfl ?_
        exact wl_X4_isWord_32 HE hr f0 hw
      · have hw := hw.2 c23
        exact w_X4_isWord_26 HE hr f0 hw
theorem k_X4_isWord {G : GT} {x0 x1 : Int} {Q : Int → Hp → Prop} {h : Hp} (f0 : Lay_X4 h x0) (l : Launch) (hw : g_X4_isWord x0 x1 Q h) : XM G l yX4_isWord cX4_isWord 4 (some .boolean) 4 85 [rV x0, rV x1] (QI Q) h :=
  XM.of (by decide) (Nat.le_of_ble_eq_true rfl) (fun X HE hr hn => w_X4_isWord_0 HE hr f0 hw)
def g_X4_wrong (x0 x1 x2 : Int) (Q : Hp → Prop) (h : Hp) : Prop :=
  (((hF h x0 13) = 0) → (∀ m10 : Hp, m10 = setF h x0 13 1 → (∀ m15 : Hp, m15 = setF m10 x0 9 x1 → (∀ m20 : Hp, m20 = setF m15 x0 10 x2 → (Q m20))))) ∧ (((hF h x0 13) ≠ 0) → (Q h))
theorem w_X4_wrong_0 {G : GT} {X : ET} {h0 : Hp} {x0 x1 x2 : Int} (HE : XE G X cX4_wrong 3 RX4 0 0 h0) (hr : XR X none) (f0 : Lay_X4 h0 x0) {Q : Hp → Prop} {h : Hp} (hw : g_X4_wrong x0 x1 x2 Q h) : Wx G X h0 (QV Q) h 0 [some (rV x0), some (iV x1), some (iV x2)] [] := by
  refine Wx.start (fun EB => ?_)
  unfold g_X4_wrong at hw
  refine x_aload_n HE 0 dX4_wrong_0 rfl rfl ?_
  refine x_gI HE dX4_wrong_1 fd_X4_13 q1850 (Or.inl rfl) (Lay_X4.tag (f0.ext EB)) rfl ?_
  refine x_if_eq HE 8 dX4_wrong_4 (by decide) (fun c4 => ?_) (fun c4 => ?_)
  · have hw := hw.1 c4
    refine x_aload_n HE 0 dX4_wrong_8 rfl rfl ?_
    refine x_iconst HE dX4_wrong_9 (by decide) ?_
    refine x_pI HE dX4_wrong_10 fd_X4_13 q1850 (Or.inl rfl) (Or.inl rfl) (nf_bool (by decide)) (Lay_X4.tag (f0.ext EB)) (nro (by decide)) (Or.inl nf_X4_13) (fun m10 em10 E10 => ?_)
    have hw := hw m10 em10
    refine x_aload_n HE 0 dX4_wrong_13 rfl rfl ?_
    refine x_iload_n HE 1 dX4_wrong_14 rfl rfl ?_
    refine x_pI HE dX4_wrong_15 fd_X4_9 q1846 (Or.inl rfl) (Or.inl rfl) (nf_int _) (Lay_X4.tag (f0.ext (EB.tr E10))) (nro (by decide)) (Or.inl nf_X4_9) (fun m15 em15 E15 => ?_)
    have hw := hw m15 em15
    refine x_aload_n HE 0 dX4_wrong_18 rfl rfl ?_
    refine x_iload_n HE 2 dX4_wrong_19 rfl rfl ?_
    refine x_pI HE dX4_wrong_20 fd_X4_10 q1847 (Or.inl rfl) (Or.inl rfl) (nf_int _) (Lay_X4.tag (f0.ext (EB.tr (E10.tr E15)))) (nro (by decide)) (Or.inl nf_X4_10) (fun m20 em20 E20 => ?_)
    have hw := hw m20 em20
    exact x_vret HE hr dX4_wrong_23 hw
  · have hw := hw.2 c4
    exact x_vret HE hr dX4_wrong_7 hw
theorem k_X4_wrong {G : GT} {x0 x1 x2 : Int} {Q : Hp → Prop} {h : Hp} (f0 : Lay_X4 h x0) (l : Launch) (hw : g_X4_wrong x0 x1 x2 Q h) : XM G l yX4_wrong cX4_wrong 3 none 0 0 [rV x0, iV x1, iV x2] (QV Q) h :=
  XM.of (by decide) (Nat.le_of_ble_eq_true rfl) (fun X HE hr hn => w_X4_wrong_0 HE hr f0 hw)
def g_X4_takesWord (x0 x1 : Int) (Q : Int → Hp → Prop) (h : Hp) : Prop :=
  g_X4_isWord x0 x1 (fun r2 m2 => Ext h m2 → (((r2 ≠ 0) → (g_X4_nextToken x0 (fun m11 => Ext m2 m11 → (Q 1 m11)) m2)) ∧ ((r2 = 0) → (Q 0 m2)))) h
theorem w_X4_takesWord_0 {G : GT} {X : ET} {h0 : Hp} {x0 x1 : Int} (HE : XE G X cX4_takesWord 2 RX4 5 108 h0) (hr : XR X (some .boolean)) (f0 : Lay_X4 h0 x0) {Q : Int → Hp → Prop} {h : Hp} (hw : g_X4_takesWord x0 x1 Q h) : Wx G X h0 (QI Q) h 0 [some (rV x0), some (rV x1)] [] := by
  refine Wx.start (fun EB => ?_)
  unfold g_X4_takesWord at hw
  refine x_aload_n HE 0 dX4_takesWord_0 rfl rfl ?_
  refine x_aload_n HE 1 dX4_takesWord_1 rfl rfl ?_
  refine x_callV HE dX4_takesWord_2 rfl (fun l => k_X4_isWord (f0.ext EB) l hw) (As := [rV x1]) (rest := []) rfl xc10 (Lay_X4.tag (f0.ext EB)) (lw_V q1985 q1987 qs60 q129 q1988) hy_X4_isWord rfl rfl (Nat.le_of_ble_eq_true rfl) (Nat.le_of_ble_eq_true rfl) (Nat.le_of_ble_eq_true rfl) (kkI (fun r2 m2 E2 hw => ?_))
  have hw := hw E2
  refine x_if_ne HE 10 dX4_takesWord_5 (by decide) (fun c5 => ?_) (fun c5 => ?_)
  · have hw := hw.1 c5
    refine x_aload_n HE 0 dX4_takesWord_10 rfl rfl ?_
    refine x_callV HE dX4_takesWord_11 rfl (fun l => k_X4_nextToken (f0.ext (EB.tr E2)) l hw) (As := []) (rest := []) rfl xc10 (Lay_X4.tag (f0.ext (EB.tr E2))) (lw_V q1966 q1968 qs57 q129 q1969) hy_X4_nextToken rfl rfl (Nat.le_of_ble_eq_true rfl) (Nat.le_of_ble_eq_true rfl) (Nat.le_of_ble_eq_true rfl) (kkV (fun m11 E11 hw => ?_))
    have hw := hw E11
    refine x_iconst HE dX4_takesWord_14 (by decide) ?_
    exact x_zret HE hr dX4_takesWord_15 (by decide) hw
  · have hw := hw.2 c5
    refine x_iconst HE dX4_takesWord_8 (by decide) ?_
    exact x_zret HE hr dX4_takesWord_9 (by decide) hw
theorem k_X4_takesWord {G : GT} {x0 x1 : Int} {Q : Int → Hp → Prop} {h : Hp} (f0 : Lay_X4 h x0) (l : Launch) (hw : g_X4_takesWord x0 x1 Q h) : XM G l yX4_takesWord cX4_takesWord 2 (some .boolean) 5 108 [rV x0, rV x1] (QI Q) h :=
  XM.of (by decide) (Nat.le_of_ble_eq_true rfl) (fun X HE hr hn => w_X4_takesWord_0 HE hr f0 hw)
def g_X4_must_b24 (x0 x1 : Int) (Q : Hp → Prop) (h : Hp) : Prop :=
  Q h
theorem w_X4_must_24 {G : GT} {X : ET} {h0 : Hp} {x0 x1 : Int} (HE : XE G X cX4_must 2 RX4 6 129 h0) (hr : XR X none) (f0 : Lay_X4 h0 x0) {Q : Hp → Prop} {h : Hp} (hw : g_X4_must_b24 x0 x1 Q  h) : Wx G X h0 (QV Q) h 24 [some (rV x0), some (rV x1)] [] := by
  refine Wx.start (fun EB => ?_)
  unfold g_X4_must_b24 at hw
  exact x_vret HE hr dX4_must_24 hw
def g_X4_must (x0 x1 : Int) (Q : Hp → Prop) (h : Hp) : Prop :=
  (((hF h x0 13) ≠ 0) → (g_X4_must_b24 x0 x1 Q h)) ∧ (((hF h x0 13) = 0) → (g_X4_takesWord x0 x1 (fun r9 m9 => Ext h m9 → (((r9 ≠ 0) → (g_X4_must_b24 x0 x1 Q m9)) ∧ ((r9 = 0) → (g_X4_wrong x0 1 (hF m9 x0 4) (fun m21 => Ext m9 m21 → (g_X4_must_b24 x0 x1 Q m21)) m9)))) h))
theorem w_X4_must_0 {G : GT} {X : ET} {h0 : Hp} {x0 x1 : Int} (HE : XE G X cX4_must 2 RX4 6 129 h0) (hr : XR X none) (f0 : Lay_X4 h0 x0) {Q : Hp → Prop} {h : Hp} (hw : g_X4_must x0 x1 Q h) : Wx G X h0 (QV Q) h 0 [some (rV x0), some (rV x1)] [] := by
  refine Wx.start (fun EB => ?_)
  unfold g_X4_must at hw
  refine x_aload_n HE 0 dX4_must_0 rfl rfl ?_
  refine x_gI HE dX4_must_1 fd_X4_13 q1850 (Or.inl rfl) (Lay_X4.tag (f0.ext EB)) rfl ?_
  refine x_if_ne HE 24 dX4_must_4 (by decide) (fun c4 => ?_) (fun c4 => ?_)
  · have hw := hw.1 c4
    exact w_X4_must_24 HE hr f0 hw
  · have hw := hw.2 c4
    refine x_aload_n HE 0 dX4_must_7 rfl rfl ?_
    refine x_aload_n HE 1 dX4_must_8 rfl rfl ?_
    refine x_callV HE dX4_must_9 rfl (fun l => k_X4_takesWord (f0.ext EB) l hw) (As := [rV x1]) (rest := []) rfl xc10 (Lay_X4.tag (f0.ext EB)) (lw_V q2025 q2027 qs65 q129 q2028) hy_X4_takesWord rfl rfl (Nat.le_of_ble_eq_true rfl) (Nat.le_of_ble_eq_true rfl) (Nat.le_of_ble_eq_true rfl) (kkI (fun r9 m9 E9 hw => ?_))
    have hw := hw E9
    refine x_if_ne HE 24 dX4_must_12 (by decide) (fun c12 => ?_) (fun c12 => ?_)
    · have hw := hw.1 c12
      exact w_X4_must_24 HE hr f0 hw
    · have hw := hw.2 c12
      refine x_aload_n HE 0 dX4_must_15 rfl rfl ?_
      refine x_iconst HE dX4_must_16 (by decide) ?_
      refine x_aload_n HE 0 dX4_must_17 rfl rfl ?_
      refine x_gI HE dX4_must_18 fd_X4_4 q1841 (Or.inl rfl) (Lay_X4.tag (f0.ext (EB.tr E9))) rfl ?_
      refine x_callV HE dX4_must_21 rfl (fun l => k_X4_wrong (f0.ext (EB.tr E9)) l hw) (As := [iV 1, iV (hF m9 x0 4)]) (rest := []) rfl xc10 (Lay_X4.tag (f0.ext (EB.tr E9))) (lw_V q2012 q2014 qs62 q129 q2015) hy_X4_wrong rfl rfl (Nat.le_of_ble_eq_true rfl) (Nat.le_of_ble_eq_true rfl) (Nat.le_of_ble_eq_true rfl) (kkV (fun m21 E21 hw => ?_))
      have hw := hw E21
      exact w_X4_must_24 HE hr f0 hw
theorem k_X4_must {G : GT} {x0 x1 : Int} {Q : Hp → Prop} {h : Hp} (f0 : Lay_X4 h x0) (l : Launch) (hw : g_X4_must x0 x1 Q h) : XM G l yX4_must cX4_must 2 none 6 129 [rV x0, rV x1] (QV Q) h :=
  XM.of (by decide) (Nat.le_of_ble_eq_true rfl) (fun X HE hr hn => w_X4_must_0 HE hr f0 hw)
def g_X4_number (x0 x1 x2 : Int) (Q : Int → Hp → Prop) (h : Hp) : Prop :=
  (((hF h x0 13) = 0) → ((((hF h x0 6) = 3) → (∀ y32 : Int, y32 = (hF h x0 7) → (g_X4_within y32 x1 x2 (fun r36 m36 => Ext h m36 → (((r36 ≠ 0) → (g_X4_nextToken x0 (fun m54 => Ext m36 m54 → (Q y32 m54)) m36)) ∧ ((r36 = 0) → (g_X4_wrong x0 4 (hF m36 x0 4) (fun m48 => Ext m36 m48 → (Q x1 m48)) m36)))) h))) ∧ (((hF h x0 6) ≠ 3) → (g_X4_wrong x0 1 (hF h x0 4) (fun m23 => Ext h m23 → (Q x1 m23)) h)))) ∧ (((hF h x0 13) ≠ 0) → (Q x1 h))
theorem w_X4_number_0 {G : GT} {X : ET} {h0 : Hp} {x0 x1 x2 : Int} (HE : XE G X cX4_number 4 RX4 2 44 h0) (hr : XR X (some .int)) (f0 : Lay_X4 h0 x0) {Q : Int → Hp → Prop} {h : Hp} (hw : g_X4_number x0 x1 x2 Q h) : Wx G X h0 (QI Q) h 0 [some (rV x0), some (iV x1), some (iV x2), none] [] := by
  refine Wx.start (fun EB => ?_)
  unfold g_X4_number at hw
  refine x_aload_n HE 0 dX4_number_0 rfl rfl ?_
  refine x_gI HE dX4_number_1 fd_X4_13 q1850 (Or.inl rfl) (Lay_X4.tag (f0.ext EB)) rfl ?_
  refine x_if_eq HE 9 dX4_number_4 (by decide) (fun c4 => ?_) (fun c4 => ?_)
  · have hw := hw.1 c4
    refine x_aload_n HE 0 dX4_number_9 rfl rfl ?_
    refine x_gI HE dX4_number_10 fd_X4_6 q1843 (Or.inl rfl) (Lay_X4.tag (f0.ext EB)) rfl ?_
    refine x_iconst HE dX4_number_13 (by decide) ?_
    refine x_ic_eq HE 28 dX4_number_14 (by decide) (fun c14 => ?_) (fun c14 => ?_)
    · have hw := hw.1 c14
      refine x_aload_n HE 0 dX4_number_28 rfl rfl ?_
      refine x_gI HE dX4_number_29 fd_X4_7 q1844 (Or.inl rfl) (Lay_X4.tag (f0.ext EB)) rfl ?_
      refine x_istore_nN HE 3 (fun y32 => [some (rV x0), some (iV x1), some (iV x2), some (iV y32)]) dX4_number_32 rfl (Nat.le_of_ble_eq_true rfl) (fun _ => rfl) (fun y32 ey32 => ?_)
      have hw := hw y32 ey32
      refine x_iload_n HE 3 dX4_number_33 rfl rfl ?_
      refine x_iload_n HE 1 dX4_number_34 rfl rfl ?_
      refine x_iload_n HE 2 dX4_number_35 rfl rfl ?_
      refine x_callS HE dX4_number_36 rfl (fun l => k_X4_within  l hw) (As := [iV y32, iV x1, iV x2]) (rest := []) rfl (lw_S q1959 q1960 q129 q1961) hy_X4_within.2 rfl rfl (Nat.le_of_ble_eq_true rfl) (Nat.le_of_ble_eq_true rfl) (Nat.le_of_ble_eq_true rfl) (kkI (fun r36 m36 E36 hw => ?_))
      have hw := hw E36
      refine x_if_ne HE 53 dX4_number_39 (by decide) (fun c39 => ?_) (fun c39 => ?_)
      · have hw := hw.1 c39
        refine x_aload_n HE 0 dX4_number_53 rfl rfl ?_
        refine x_callV HE dX4_number_54 rfl (fun l => k_X4_nextToken (f0.ext (EB.tr E36)) l hw) (As := []) (rest := []) rfl xc10 (Lay_X4.tag (f0.ext (EB.tr E36))) (lw_V q1966 q1968 qs57 q129 q1969) hy_X4_nextToken rfl rfl (Nat.le_of_ble_eq_true rfl) (Nat.le_of_ble_eq_true rfl) (Nat.le_of_ble_eq_true rfl) (kkV (fun m54 E54 hw => ?_))
        have hw := hw E54
        refine x_iload_n HE 3 dX4_number_57 rfl rfl ?_
        exact x_iret HE hr dX4_number_58 hw
      · have hw := hw.2 c39
        refine x_aload_n HE 0 dX4_number_42 rfl rfl ?_
        refine x_iconst HE dX4_number_43 (by decide) ?_
        refine x_aload_n HE 0 dX4_number_44 rfl rfl ?_
        refine x_gI HE dX4_number_45 fd_X4_4 q1841 (Or.inl rfl) (Lay_X4.tag (f0.ext (EB.tr E36))) rfl ?_
        refine x_callV HE dX4_number_48 rfl (fun l => k_X4_wrong (f0.ext (EB.tr E36)) l hw) (As := [iV 4, iV (hF m36 x0 4)]) (rest := []) rfl xc10 (Lay_X4.tag (f0.ext (EB.tr E36))) (lw_V q2012 q2014 qs62 q129 q2015) hy_X4_wrong rfl rfl (Nat.le_of_ble_eq_true rfl) (Nat.le_of_ble_eq_true rfl) (Nat.le_of_ble_eq_true rfl) (kkV (fun m48 E48 hw => ?_))
        have hw := hw E48
        refine x_iload_n HE 1 dX4_number_51 rfl rfl ?_
        exact x_iret HE hr dX4_number_52 hw
    · have hw := hw.2 c14
      refine x_aload_n HE 0 dX4_number_17 rfl rfl ?_
      refine x_iconst HE dX4_number_18 (by decide) ?_
      refine x_aload_n HE 0 dX4_number_19 rfl rfl ?_
      refine x_gI HE dX4_number_20 fd_X4_4 q1841 (Or.inl rfl) (Lay_X4.tag (f0.ext EB)) rfl ?_
      refine x_callV HE dX4_number_23 rfl (fun l => k_X4_wrong (f0.ext EB) l hw) (As := [iV 1, iV (hF h x0 4)]) (rest := []) rfl xc10 (Lay_X4.tag (f0.ext EB)) (lw_V q2012 q2014 qs62 q129 q2015) hy_X4_wrong rfl rfl (Nat.le_of_ble_eq_true rfl) (Nat.le_of_ble_eq_true rfl) (Nat.le_of_ble_eq_true rfl) (kkV (fun m23 E23 hw => ?_))
      have hw := hw E23
      refine x_iload_n HE 1 dX4_number_26 rfl rfl ?_
      exact x_iret HE hr dX4_number_27 hw
  · have hw := hw.2 c4
    refine x_iload_n HE 1 dX4_number_7 rfl rfl ?_
    exact x_iret HE hr dX4_number_8 hw
theorem k_X4_number {G : GT} {x0 x1 x2 : Int} {Q : Int → Hp → Prop} {h : Hp} (f0 : Lay_X4 h x0) (l : Launch) (hw : g_X4_number x0 x1 x2 Q h) : XM G l yX4_number cX4_number 4 (some .int) 2 44 [rV x0, iV x1, iV x2] (QI Q) h :=
  XM.of (by decide) (Nat.le_of_ble_eq_true rfl) (fun X HE hr hn => w_X4_number_0 HE hr f0 hw)
def g_X4_after (x0 x1 x2 x3 : Int) (Q : Int → Hp → Prop) (h : Hp) : Prop :=
  g_X4_must x0 x1 (fun m2 => Ext h m2 → (g_X4_number x0 x2 x3 (fun r8 m8 => Ext m2 m8 → (Q r8 m8)) m2)) h
theorem w_X4_after_0 {G : GT} {X : ET} {h0 : Hp} {x0 x1 x2 x3 : Int} (HE : XE G X cX4_after 4 RX4 7 150 h0) (hr : XR X (some .int)) (f0 : Lay_X4 h0 x0) {Q : Int → Hp → Prop} {h : Hp} (hw : g_X4_after x0 x1 x2 x3 Q h) : Wx G X h0 (QI Q) h 0 [some (rV x0), some (rV x1), some (iV x2), some (iV x3)] [] := by
  refine Wx.start (fun EB => ?_)
  unfold g_X4_after at hw
  refine x_aload_n HE 0 dX4_after_0 rfl rfl ?_
  refine x_aload_n HE 1 dX4_after_1 rfl rfl ?_
  refine x_callV HE dX4_after_2 rfl (fun l => k_X4_must (f0.ext EB) l hw) (As := [rV x1]) (rest := []) rfl xc10 (Lay_X4.tag (f0.ext EB)) (lw_V q2021 q2023 qs64 q129 q2024) hy_X4_must rfl rfl (Nat.le_of_ble_eq_true rfl) (Nat.le_of_ble_eq_true rfl) (Nat.le_of_ble_eq_true rfl) (kkV (fun m2 E2 hw => ?_))
  have hw := hw E2
  refine x_aload_n HE 0 dX4_after_5 rfl rfl ?_
  refine x_iload_n HE 2 dX4_after_6 rfl rfl ?_
  refine x_iload_n HE 3 dX4_after_7 rfl rfl ?_
  refine x_callV HE dX4_after_8 rfl (fun l => k_X4_number (f0.ext (EB.tr E2)) l hw) (As := [iV x2, iV x3]) (rest := []) rfl xc10 (Lay_X4.tag (f0.ext (EB.tr E2))) (lw_V q2029 q2031 qs66 q129 q2032) hy_X4_number rfl rfl (Nat.le_of_ble_eq_true rfl) (Nat.le_of_ble_eq_true rfl) (Nat.le_of_ble_eq_true rfl) (kkI (fun r8 m8 E8 hw => ?_))
  have hw := hw E8
  exact x_iret HE hr dX4_after_11 hw
theorem k_X4_after {G : GT} {x0 x1 x2 x3 : Int} {Q : Int → Hp → Prop} {h : Hp} (f0 : Lay_X4 h x0) (l : Launch) (hw : g_X4_after x0 x1 x2 x3 Q h) : XM G l yX4_after cX4_after 4 (some .int) 7 150 [rV x0, rV x1, iV x2, iV x3] (QI Q) h :=
  XM.of (by decide) (Nat.le_of_ble_eq_true rfl) (fun X HE hr hn => w_X4_after_0 HE hr f0 hw)
def g_X4_houseLine_b76 (x0 : Int) (Q : Hp → Prop) (h : Hp) : Prop :=
  Q h
theorem w_X4_houseLine_76 {G : GT} {X : ET} {h0 : Hp} {x0 : Int} (HE : XE G X cX4_houseLine 1 RX4 8 173 h0) (hr : XR X none) (f0 : Lay_X4 h0 x0) {Q : Hp → Prop} {h : Hp} (hw : g_X4_houseLine_b76 x0 Q  h) : Wx G X h0 (QV Q) h 76 [some (rV x0)] [] := by
  refine Wx.start (fun EB => ?_)
  unfold g_X4_houseLine_b76 at hw
  exact x_vret HE hr dX4_houseLine_76 hw
def g_X4_houseLine_b19 (x0 : Int) (Q : Hp → Prop) (h : Hp) : Prop :=
  (((hF h x0 13) = 0) → (g_X4_nextToken x0 (fun m28 => Ext h m28 → (g_X4_after x0 (hF m28 0 3) 1 20 (fun r42 m42 => Ext m28 m42 → (∀ m45 : Hp, m45 = setA m42 (x0 + 4) 1 r42 → (g_X4_after x0 (hF m45 0 4) 1 600 (fun r58 m58 => Ext m45 m58 → (∀ m61 : Hp, m61 = setA m58 (x0 + 4) 2 r58 → ((((hF m61 x0 13) ≠ 0) → (g_X4_houseLine_b76 x0 Q m61)) ∧ (((hF m61 x0 13) = 0) → (∀ m75 : Hp, m75 = setA m61 (x0 + 4) 0 1 → (g_X4_houseLine_b76 x0 Q m75)))))) m45))) m28)) h)) ∧ (((hF h x0 13) ≠ 0) → (Q h))
theorem w_X4_houseLine_19 {G : GT} {X : ET} {h0 : Hp} {x0 : Int} (HE : XE G X cX4_houseLine 1 RX4 8 173 h0) (hr : XR X none) (f0 : Lay_X4 h0 x0) {Q : Hp → Prop} {h : Hp} (hw : g_X4_houseLine_b19 x0 Q  h) : Wx G X h0 (QV Q) h 19 [some (rV x0)] [] := by
  refine Wx.start (fun EB => ?_)
  unfold g_X4_houseLine_b19 at hw
  refine x_aload_n HE 0 dX4_houseLine_19 rfl rfl ?_
  refine x_gI HE dX4_houseLine_20 fd_X4_13 q1850 (Or.inl rfl) (Lay_X4.tag (f0.ext EB)) rfl ?_
  refine x_if_eq HE 27 dX4_houseLine_23 (by decide) (fun c23 => ?_) (fun c23 => ?_)
  · have hw := hw.1 c23
    refine x_aload_n HE 0 dX4_houseLine_27 rfl rfl ?_
    refine x_callV HE dX4_houseLine_28 rfl (fun l => k_X4_nextToken (f0.ext EB) l hw) (As := []) (rest := []) rfl xc10 (Lay_X4.tag (f0.ext EB)) (lw_V q1966 q1968 qs57 q129 q1969) hy_X4_nextToken rfl rfl (Nat.le_of_ble_eq_true rfl) (Nat.le_of_ble_eq_true rfl) (Nat.le_of_ble_eq_true rfl) (kkV (fun m28 E28 hw => ?_))
    have hw := hw E28
    refine x_aload_n HE 0 dX4_houseLine_31 rfl rfl ?_
    refine x_gR HE dX4_houseLine_32 fd_X4_16 q1853 (Or.inl rfl) (Lay_X4.tag (f0.ext (EB.tr E28))) (Lay_X4_16 (f0.ext (EB.tr E28))).1 ?_
    refine x_iconst HE dX4_houseLine_35 (by decide) ?_
    refine x_aload_n HE 0 dX4_houseLine_36 rfl rfl ?_
    refine x_ldcS (k := 2) HE dX4_houseLine_37 (List.mem_of_getElem? (i := 40) rfl) (fun hp37 => ?_)
    refine x_iconst HE dX4_houseLine_39 (by decide) ?_
    refine x_bipush HE dX4_houseLine_40 (by decide) ?_
    refine x_callV HE dX4_houseLine_42 rfl (fun l => k_X4_after (f0.ext (EB.tr E28)) l hw) (As := [rV (hF m28 0 3), iV 1, iV 20]) (rest := [iV 1, rV (x0 + 4)]) rfl xc10 (Lay_X4.tag (f0.ext (EB.tr E28))) (lw_V q2017 q2019 qs63 q129 q2020) hy_X4_after rfl rfl (Nat.le_of_ble_eq_true rfl) (Nat.le_of_ble_eq_true rfl) (Nat.le_of_ble_eq_true rfl) (kkI (fun r42 m42 E42 hw => ?_))
    have hw := hw E42
    refine x_iast HE dX4_houseLine_45 ((Lay_X4_16 (f0.ext (EB.tr (E28.tr E42)))).2.1) (ix_of ((Lay_X4_16 (f0.ext (EB.tr (E28.tr E42)))).2.2) (by decide)) (fun m45 em45 E45 => ?_)
    have hw := hw m45 em45
    refine x_aload_n HE 0 dX4_houseLine_46 rfl rfl ?_
    refine x_gR HE dX4_houseLine_47 fd_X4_16 q1853 (Or.inl rfl) (Lay_X4.tag (f0.ext (EB.tr (E28.tr (E42.tr E45))))) (Lay_X4_16 (f0.ext (EB.tr (E28.tr (E42.tr E45))))).1 ?_
    refine x_iconst HE dX4_houseLine_50 (by decide) ?_
    refine x_aload_n HE 0 dX4_houseLine_51 rfl rfl ?_
    refine x_ldcS (k := 3) HE dX4_houseLine_52 (List.mem_of_getElem? (i := 41) rfl) (fun hp52 => ?_)
    refine x_iconst HE dX4_houseLine_54 (by decide) ?_
    refine x_sipush HE dX4_houseLine_55 (by decide) ?_
    refine x_callV HE dX4_houseLine_58 rfl (fun l => k_X4_after (f0.ext (EB.tr (E28.tr (E42.tr E45)))) l hw) (As := [rV (hF m45 0 4), iV 1, iV 600]) (rest := [iV 2, rV (x0 + 4)]) rfl xc10 (Lay_X4.tag (f0.ext (EB.tr (E28.tr (E42.tr E45))))) (lw_V q2017 q2019 qs63 q129 q2020) hy_X4_after rfl rfl (Nat.le_of_ble_eq_true rfl) (Nat.le_of_ble_eq_true rfl) (Nat.le_of_ble_eq_true rfl) (kkI (fun r58 m58 E58 hw => ?_))
    have hw := hw E58
    refine x_iast HE dX4_houseLine_61 ((Lay_X4_16 (f0.ext (EB.tr (E28.tr (E42.tr (E45.tr E58)))))).2.1) (ix_of ((Lay_X4_16 (f0.ext (EB.tr (E28.tr (E42.tr (E45.tr E58)))))).2.2) (by decide)) (fun m61 em61 E61 => ?_)
    have hw := hw m61 em61
    refine x_aload_n HE 0 dX4_houseLine_62 rfl rfl ?_
    refine x_gI HE dX4_houseLine_63 fd_X4_13 q1850 (Or.inl rfl) (Lay_X4.tag (f0.ext (EB.tr (E28.tr (E42.tr (E45.tr (E58.tr E61))))))) rfl ?_
    refine x_if_ne HE 76 dX4_houseLine_66 (by decide) (fun c66 => ?_) (fun c66 => ?_)
    · have hw := hw.1 c66
      exact w_X4_houseLine_76 HE hr f0 hw
    · have hw := hw.2 c66
      refine x_aload_n HE 0 dX4_houseLine_69 rfl rfl ?_
      refine x_gR HE dX4_houseLine_70 fd_X4_16 q1853 (Or.inl rfl) (Lay_X4.tag (f0.ext (EB.tr (E28.tr (E42.tr (E45.tr (E58.tr E61))))))) (Lay_X4_16 (f0.ext (EB.tr (E28.tr (E42.tr (E45.tr (E58.tr E61))))))).1 ?_
      refine x_iconst HE dX4_houseLine_73 (by decide) ?_
      refine x_iconst HE dX4_houseLine_74 (by decide) ?_
      refine x_iast HE dX4_houseLine_75 ((Lay_X4_16 (f0.ext (EB.tr (E28.tr (E42.tr (E45.tr (E58.tr E61))))))).2.1) (ix_of ((Lay_X4_16 (f0.ext (EB.tr (E28.tr (E42.tr (E45.tr (E58.tr E61))))))).2.2) (by decide)) (fun m75 em75 E75 => ?_)
      have hw := hw m75 em75
      exact w_X4_houseLine_76 HE hr f0 hw
  · have hw := hw.2 c23
    exact x_vret HE hr dX4_houseLine_26 hw
def g_X4_houseLine (x0 : Int) (Q : Hp → Prop) (h : Hp) : Prop :=
  (((hA h (x0 + 4) 0) ≠ 1) → (g_X4_houseLine_b19 x0 Q h)) ∧ (((hA h (x0 + 4) 0) = 1) → (g_X4_wrong x0 3 (hF h x0 4) (fun m16 => Ext h m16 → (g_X4_houseLine_b19 x0 Q m16)) h))
theorem w_X4_houseLine_0 {G : GT} {X : ET} {h0 : Hp} {x0 : Int} (HE : XE G X cX4_houseLine 1 RX4 8 173 h0) (hr : XR X none) (f0 : Lay_X4 h0 x0) {Q : Hp → Prop} {h : Hp} (hw : g_X4_houseLine x0 Q h) : Wx G X h0 (QV Q) h 0 [some (rV x0)] [] := by
  refine Wx.start (fun EB => ?_)
  unfold g_X4_houseLine at hw
  refine x_aload_n HE 0 dX4_houseLine_0 rfl rfl ?_
  refine x_gR HE dX4_houseLine_1 fd_X4_16 q1853 (Or.inl rfl) (Lay_X4.tag (f0.ext EB)) (Lay_X4_16 (f0.ext EB)).1 ?_
  refine x_iconst HE dX4_houseLine_4 (by decide) ?_
  refine x_iald HE dX4_houseLine_5 (t := 1) (by decide) ((Lay_X4_16 (f0.ext EB)).2.1) (ix_of ((Lay_X4_16 (f0.ext EB)).2.2) (by decide)) rfl ?_
  refine x_iconst HE dX4_houseLine_6 (by decide) ?_
  refine x_ic_ne HE 19 dX4_houseLine_7 (by decide) (fun c7 => ?_) (fun c7 => ?_)
  · have hw := hw.1 c7
    exact w_X4_houseLine_19 HE hr f0 hw
  · have hw := hw.2 c7
    refine x_aload_n HE 0 dX4_houseLine_10 rfl rfl ?_
    refine x_iconst HE dX4_houseLine_11 (by decide) ?_
    refine x_aload_n HE 0 dX4_houseLine_12 rfl rfl ?_
    refine x_gI HE dX4_houseLine_13 fd_X4_4 q1841 (Or.inl rfl) (Lay_X4.tag (f0.ext EB)) rfl ?_
    refine x_callV HE dX4_houseLine_16 rfl (fun l => k_X4_wrong (f0.ext EB) l hw) (As := [iV 3, iV (hF h x0 4)]) (rest := []) rfl xc10 (Lay_X4.tag (f0.ext EB)) (lw_V q2012 q2014 qs62 q129 q2015) hy_X4_wrong rfl rfl (Nat.le_of_ble_eq_true rfl) (Nat.le_of_ble_eq_true rfl) (Nat.le_of_ble_eq_true rfl) (kkV (fun m16 E16 hw => ?_))
    have hw := hw E16
    exact w_X4_houseLine_19 HE hr f0 hw
theorem k_X4_houseLine {G : GT} {x0 : Int} {Q : Hp → Prop} {h : Hp} (f0 : Lay_X4 h x0) (l : Launch) (hw : g_X4_houseLine x0 Q h) : XM G l yX4_houseLine cX4_houseLine 1 none 8 173 [rV x0] (QV Q) h :=
  XM.of (by decide) (Nat.le_of_ble_eq_true rfl) (fun X HE hr hn => w_X4_houseLine_0 HE hr f0 hw)
def g_X4_begins_b53 (x0 x1 x2 : Int) (Q : Int → Hp → Prop) (h : Hp) : Prop :=
  Q 1 h
theorem w_X4_begins_53 {G : GT} {X : ET} {h0 : Hp} {x0 x1 x2 : Int} (HE : XE G X cX4_begins 3 RX4 5 108 h0) (hr : XR X (some .boolean)) (f0 : Lay_X4 h0 x0) {Q : Int → Hp → Prop} {h : Hp} (hw : g_X4_begins_b53 x0 x1 x2 Q  h) : Wx G X h0 (QI Q) h 53 [some (rV x0), some (rV x1), some (iV x2)] [] := by
  refine Wx.start (fun EB => ?_)
  unfold g_X4_begins_b53 at hw
  refine x_iconst HE dX4_begins_53 (by decide) ?_
  exact x_zret HE hr dX4_begins_54 (by decide) hw
def g_X4_begins_b42 (x0 x1 x2 : Int) (Q : Int → Hp → Prop) (h : Hp) : Prop :=
  (((hF h x0 13) ≠ 0) → (g_X4_begins_b53 x0 x1 x2 Q h)) ∧ (((hF h x0 13) = 0) → (g_X4_nextToken x0 (fun m50 => Ext h m50 → (g_X4_begins_b53 x0 x1 x2 Q m50)) h))
theorem w_X4_begins_42 {G : GT} {X : ET} {h0 : Hp} {x0 x1 x2 : Int} (HE : XE G X cX4_begins 3 RX4 5 108 h0) (hr : XR X (some .boolean)) (f0 : Lay_X4 h0 x0) {Q : Int → Hp → Prop} {h : Hp} (hw : g_X4_begins_b42 x0 x1 x2 Q  h) : Wx G X h0 (QI Q) h 42 [some (rV x0), some (rV x1), some (iV x2)] [] := by
  refine Wx.start (fun EB => ?_)
  unfold g_X4_begins_b42 at hw
  refine x_aload_n HE 0 dX4_begins_42 rfl rfl ?_
  refine x_gI HE dX4_begins_43 fd_X4_13 q1850 (Or.inl rfl) (Lay_X4.tag (f0.ext EB)) rfl ?_
  refine x_if_ne HE 53 dX4_begins_46 (by decide) (fun c46 => ?_) (fun c46 => ?_)
  · have hw := hw.1 c46
    exact w_X4_begins_53 HE hr f0 hw
  · have hw := hw.2 c46
    refine x_aload_n HE 0 dX4_begins_49 rfl rfl ?_
    refine x_callV HE dX4_begins_50 rfl (fun l => k_X4_nextToken (f0.ext EB) l hw) (As := []) (rest := []) rfl xc10 (Lay_X4.tag (f0.ext EB)) (lw_V q1966 q1968 qs57 q129 q1969) hy_X4_nextToken rfl rfl (Nat.le_of_ble_eq_true rfl) (Nat.le_of_ble_eq_true rfl) (Nat.le_of_ble_eq_true rfl) (kkV (fun m50 E50 hw => ?_))
    have hw := hw E50
    exact w_X4_begins_53 HE hr f0 hw
def g_X4_begins_b23 (x0 x1 x2 : Int) (Q : Int → Hp → Prop) (h : Hp) : Prop :=
  (((hA h (x0 + 4) 0) ≠ 0) → (g_X4_begins_b42 x0 x1 x2 Q h)) ∧ (((hA h (x0 + 4) 0) = 0) → (g_X4_wrong x0 6 (hF h x0 4) (fun m39 => Ext h m39 → (g_X4_begins_b42 x0 x1 x2 Q m39)) h))
theorem w_X4_begins_23 {G : GT} {X : ET} {h0 : Hp} {x0 x1 x2 : Int} (HE : XE G X cX4_begins 3 RX4 5 108 h0) (hr : XR X (some .boolean)) (f0 : Lay_X4 h0 x0) {Q : Int → Hp → Prop} {h : Hp} (hw : g_X4_begins_b23 x0 x1 x2 Q  h) : Wx G X h0 (QI Q) h 23 [some (rV x0), some (rV x1), some (iV x2)] [] := by
  refine Wx.start (fun EB => ?_)
  unfold g_X4_begins_b23 at hw
  refine x_aload_n HE 0 dX4_begins_23 rfl rfl ?_
  refine x_gR HE dX4_begins_24 fd_X4_16 q1853 (Or.inl rfl) (Lay_X4.tag (f0.ext EB)) (Lay_X4_16 (f0.ext EB)).1 ?_
  refine x_iconst HE dX4_begins_27 (by decide) ?_
  refine x_iald HE dX4_begins_28 (t := 1) (by decide) ((Lay_X4_16 (f0.ext EB)).2.1) (ix_of ((Lay_X4_16 (f0.ext EB)).2.2) (by decide)) rfl ?_
  refine x_if_ne HE 42 dX4_begins_29 (by decide) (fun c29 => ?_) (fun c29 => ?_)
  · have hw := hw.1 c29
    exact w_X4_begins_42 HE hr f0 hw
  · have hw := hw.2 c29
    refine x_aload_n HE 0 dX4_begins_32 rfl rfl ?_
    refine x_bipush HE dX4_begins_33 (by decide) ?_
    refine x_aload_n HE 0 dX4_begins_35 rfl rfl ?_
    refine x_gI HE dX4_begins_36 fd_X4_4 q1841 (Or.inl rfl) (Lay_X4.tag (f0.ext EB)) rfl ?_
    refine x_callV HE dX4_begins_39 rfl (fun l => k_X4_wrong (f0.ext EB) l hw) (As := [iV 6, iV (hF h x0 4)]) (rest := []) rfl xc10 (Lay_X4.tag (f0.ext EB)) (lw_V q2012 q2014 qs62 q129 q2015) hy_X4_wrong rfl rfl (Nat.le_of_ble_eq_true rfl) (Nat.le_of_ble_eq_true rfl) (Nat.le_of_ble_eq_true rfl) (kkV (fun m39 E39 hw => ?_))
    have hw := hw E39
    exact w_X4_begins_42 HE hr f0 hw
def g_X4_begins (x0 x1 x2 : Int) (Q : Int → Hp → Prop) (h : Hp) : Prop :=
  g_X4_isWord x0 x1 (fun r2 m2 => Ext h m2 → (((r2 ≠ 0) → (((x2 ≠ 0) → (g_X4_begins_b23 x0 x1 x2 Q m2)) ∧ ((x2 = 0) → (g_X4_wrong x0 5 (hF m2 x0 4) (fun m20 => Ext m2 m20 → (g_X4_begins_b23 x0 x1 x2 Q m20)) m2)))) ∧ ((r2 = 0) → (Q 0 m2)))) h
theorem w_X4_begins_0 {G : GT} {X : ET} {h0 : Hp} {x0 x1 x2 : Int} (HE : XE G X cX4_begins 3 RX4 5 108 h0) (hr : XR X (some .boolean)) (f0 : Lay_X4 h0 x0) {Q : Int → Hp → Prop} {h : Hp} (hw : g_X4_begins x0 x1 x2 Q h) : Wx G X h0 (QI Q) h 0 [some (rV x0), some (rV x1), some (iV x2)] [] := by
  refine Wx.start (fun EB => ?_)
  unfold g_X4_begins at hw
  refine x_aload_n HE 0 dX4_begins_0 rfl rfl ?_
  refine x_aload_n HE 1 dX4_begins_1 rfl rfl ?_
  refine x_callV HE dX4_begins_2 rfl (fun l => k_X4_isWord (f0.ext EB) l hw) (As := [rV x1]) (rest := []) rfl xc10 (Lay_X4.tag (f0.ext EB)) (lw_V q1985 q1987 qs60 q129 q1988) hy_X4_isWord rfl rfl (Nat.le_of_ble_eq_true rfl) (Nat.le_of_ble_eq_true rfl) (Nat.le_of_ble_eq_true rfl) (kkI (fun r2 m2 E2 hw => ?_))
  have hw := hw E2
  refine x_if_ne HE 10 dX4_begins_5 (by decide) (fun c5 => ?_) (fun c5 => ?_)
  · have hw := hw.1 c5
    refine x_iload_n HE 2 dX4_begins_10 rfl rfl ?_
    refine x_if_ne HE 23 dX4_begins_11 (by decide) (fun c11 => ?_) (fun c11 => ?_)
    · have hw := hw.1 c11
      exact w_X4_begins_23 HE hr f0 hw
    · have hw := hw.2 c11
      refine x_aload_n HE 0 dX4_begins_14 rfl rfl ?_
      refine x_iconst HE dX4_begins_15 (by decide) ?_
      refine x_aload_n HE 0 dX4_begins_16 rfl rfl ?_
      refine x_gI HE dX4_begins_17 fd_X4_4 q1841 (Or.inl rfl) (Lay_X4.tag (f0.ext (EB.tr E2))) rfl ?_
      refine x_callV HE dX4_begins_20 rfl (fun l => k_X4_wrong (f0.ext (EB.tr E2)) l hw) (As := [iV 5, iV (hF m2 x0 4)]) (rest := []) rfl xc10 (Lay_X4.tag (f0.ext (EB.tr E2))) (lw_V q2012 q2014 qs62 q129 q2015) hy_X4_wrong rfl rfl (Nat.le_of_ble_eq_true rfl) (Nat.le_of_ble_eq_true rfl) (Nat.le_of_ble_eq_true rfl) (kkV (fun m20 E20 hw => ?_))
      have hw := hw E20
      exact w_X4_begins_23 HE hr f0 hw
  · have hw := hw.2 c5
    refine x_iconst HE dX4_begins_8 (by decide) ?_
    exact x_zret HE hr dX4_begins_9 (by decide) hw
theorem k_X4_begins {G : GT} {x0 x1 x2 : Int} {Q : Int → Hp → Prop} {h : Hp} (f0 : Lay_X4 h x0) (l : Launch) (hw : g_X4_begins x0 x1 x2 Q h) : XM G l yX4_begins cX4_begins 3 (some .boolean) 5 108 [rV x0, rV x1, iV x2] (QI Q) h :=
  XM.of (by decide) (Nat.le_of_ble_eq_true rfl) (fun X HE hr hn => w_X4_begins_0 HE hr f0 hw)
def g_X4_mustName_b81 (x0 : Int) (Q : Hp → Prop) (h : Hp) : Prop :=
  Q h
theorem w_X4_mustName_81 {G : GT} {X : ET} {h0 : Hp} {x0 : Int} (HE : XE G X cX4_mustName 2 RX4 5 108 h0) (hr : XR X none) (f0 : Lay_X4 h0 x0) {Q : Hp → Prop} {h : Hp} (hw : g_X4_mustName_b81 x0 Q  h) : Wx G X h0 (QV Q) h 81 [some (rV x0), none] [] := by
  refine Wx.start (fun EB => ?_)
  unfold g_X4_mustName_b81 at hw
  exact x_vret HE hr dX4_mustName_81 hw
def g_X4_mustName_b72 (x0 : Int) (Q : Hp → Prop) (h : Hp) : Prop :=
  g_X4_wrong x0 1 (hF h x0 4) (fun m78 => Ext h m78 → (g_X4_mustName_b81 x0 Q m78)) h
theorem w_X4_mustName_72 {G : GT} {X : ET} {h0 : Hp} {x0 : Int} (HE : XE G X cX4_mustName 2 RX4 5 108 h0) (hr : XR X none) (f0 : Lay_X4 h0 x0) {Q : Hp → Prop} {h : Hp} (hw : g_X4_mustName_b72 x0 Q  h) : Wx G X h0 (QV Q) h 72 [some (rV x0), none] [] := by
  refine Wx.start (fun EB => ?_)
  unfold g_X4_mustName_b72 at hw
  refine x_aload_n HE 0 dX4_mustName_72 rfl rfl ?_
  refine x_iconst HE dX4_mustName_73 (by decide) ?_
  refine x_aload_n HE 0 dX4_mustName_74 rfl rfl ?_
  refine x_gI HE dX4_mustName_75 fd_X4_4 q1841 (Or.inl rfl) (Lay_X4.tag (f0.ext EB)) rfl ?_
  refine x_callV HE dX4_mustName_78 rfl (fun l => k_X4_wrong (f0.ext EB) l hw) (As := [iV 1, iV (hF h x0 4)]) (rest := []) rfl xc10 (Lay_X4.tag (f0.ext EB)) (lw_V q2012 q2014 qs62 q129 q2015) hy_X4_wrong rfl rfl (Nat.le_of_ble_eq_true rfl) (Nat.le_of_ble_eq_true rfl) (Nat.le_of_ble_eq_true rfl) (kkV (fun m78 E78 hw => ?_))
  have hw := hw E78
  exact w_X4_mustName_81 HE hr f0 hw
def g_X4_mustName_b59 (x0 : Int) (Q : Hp → Prop) (s0 : Int) (h : Hp) : Prop :=
  (((hF h x0 6) ≠ 2) → (g_X4_mustName_b72 x0 Q h)) ∧ (((hF h x0 6) = 2) → (((s0 = 0) → (g_X4_mustName_b81 x0 Q h)) ∧ ((s0 ≠ 0) → (g_X4_mustName_b72 x0 Q h))))
theorem w_X4_mustName_59 {G : GT} {X : ET} {h0 : Hp} {x0 : Int} (HE : XE G X cX4_mustName 2 RX4 5 108 h0) (hr : XR X none) (f0 : Lay_X4 h0 x0) {Q : Hp → Prop} {s0 : Int} {h : Hp} (hw : g_X4_mustName_b59 x0 Q s0 h) : Wx G X h0 (QV Q) h 59 [some (rV x0), none] [iV s0] := by
  refine Wx.start (fun EB => ?_)
  unfold g_X4_mustName_b59 at hw
  refine x_istore_n HE 1 (lo' := [some (rV x0), some (iV s0)]) dX4_mustName_59 rfl (Nat.le_of_ble_eq_true rfl) rfl ?_
  refine x_aload_n HE 0 dX4_mustName_60 rfl rfl ?_
  refine x_gI HE dX4_mustName_61 fd_X4_6 q1843 (Or.inl rfl) (Lay_X4.tag (f0.ext EB)) rfl ?_
  refine x_iconst HE dX4_mustName_64 (by decide) ?_
  refine x_ic_ne HE 72 dX4_mustName_65 (by decide) (fun c65 => ?_) (fun c65 => ?_)
  · have hw := hw.1 c65
    refine Wx.mask [true, false] (lo2 := [some (rV x0), none]) rfl ?_
    exact w_X4_mustName_72 HE hr f0 hw
  · have hw := hw.2 c65
    refine x_iload_n HE 1 dX4_mustName_68 rfl rfl ?_
    refine x_if_eq HE 81 dX4_mustName_69 (by decide) (fun c69 => ?_) (fun c69 => ?_)
    · have hw := hw.1 c69
      refine Wx.mask [true, false] (lo2 := [some (rV x0), none]) rfl ?_
      exact w_X4_mustName_81 HE hr f0 hw
    · have hw := hw.2 c69
      refine Wx.mask [true, false] (lo2 := [some (rV x0), none]) rfl ?_
      exact w_X4_mustName_72 HE hr f0 hw
def g_X4_mustName_b54 (x0 : Int) (Q : Hp → Prop) (h : Hp) : Prop :=
  g_X4_mustName_b59 x0 Q 1 h
theorem w_X4_mustName_54 {G : GT} {X : ET} {h0 : Hp} {x0 : Int} (HE : XE G X cX4_mustName 2 RX4 5 108 h0) (hr : XR X none) (f0 : Lay_X4 h0 x0) {Q : Hp → Prop} {h : Hp} (hw : g_X4_mustName_b54 x0 Q  h) : Wx G X h0 (QV Q) h 54 [some (rV x0), none] [] := by
  refine Wx.start (fun EB => ?_)
  unfold g_X4_mustName_b54 at hw
  refine x_iconst HE dX4_mustName_54 (by decide) ?_
  refine x_goto HE 59 dX4_mustName_55 (by decide) ?_
  exact w_X4_mustName_59 HE hr f0 hw
def g_X4_mustName (x0 : Int) (Q : Hp → Prop) (h : Hp) : Prop :=
  g_X4_isWord x0 (hF h 0 2) (fun r3 m3 => Ext h m3 → (((r3 ≠ 0) → (g_X4_mustName_b54 x0 Q m3)) ∧ ((r3 = 0) → (g_X4_isWord x0 (hF m3 0 5) (fun r12 m12 => Ext m3 m12 → (((r12 ≠ 0) → (g_X4_mustName_b54 x0 Q m12)) ∧ ((r12 = 0) → (g_X4_isWord x0 (hF m12 0 6) (fun r21 m21 => Ext m12 m21 → (((r21 ≠ 0) → (g_X4_mustName_b54 x0 Q m21)) ∧ ((r21 = 0) → (g_X4_isWord x0 (hF m21 0 7) (fun r30 m30 => Ext m21 m30 → (((r30 ≠ 0) → (g_X4_mustName_b54 x0 Q m30)) ∧ ((r30 = 0) → (g_X4_isWord x0 (hF m30 0 8) (fun r39 m39 => Ext m30 m39 → (((r39 ≠ 0) → (g_X4_mustName_b54 x0 Q m39)) ∧ ((r39 = 0) → (g_X4_isWord x0 (hF m39 0 9) (fun r48 m48 => Ext m39 m48 → (((r48 = 0) → (g_X4_mustName_b59 x0 Q 0 m48)) ∧ ((r48 ≠ 0) → (g_X4_mustName_b54 x0 Q m48)))) m39)))) m30)))) m21)))) m12)))) m3)))) h
theorem w_X4_mustName_0 {G : GT} {X : ET} {h0 : Hp} {x0 : Int} (HE : XE G X cX4_mustName 2 RX4 5 108 h0) (hr : XR X none) (f0 : Lay_X4 h0 x0) {Q : Hp → Prop} {h : Hp} (hw : g_X4_mustName x0 Q h) : Wx G X h0 (QV Q) h 0 [some (rV x0), none] [] := by
  refine Wx.start (fun EB => ?_)
  unfold g_X4_mustName at hw
  refine x_aload_n HE 0 dX4_mustName_0 rfl rfl ?_
  refine x_ldcS (k := 1) HE dX4_mustName_1 (List.mem_of_getElem? (i := 39) rfl) (fun hp1 => ?_)
  refine x_callV HE dX4_mustName_3 rfl (fun l => k_X4_isWord (f0.ext EB) l hw) (As := [rV (hF h 0 2)]) (rest := []) rfl xc10 (Lay_X4.tag (f0.ext EB)) (lw_V q1985 q1987 qs60 q129 q1988) hy_X4_isWord rfl rfl (Nat.le_of_ble_eq_true rfl) (Nat.le_of_ble_eq_true rfl) (Nat.le_of_ble_eq_true rfl) (kkI (fun r3 m3 E3 hw => ?_))
  have hw := hw E3
  refine x_if_ne HE 54 dX4_mustName_6 (by decide) (fun c6 => ?_) (fun c6 => ?_)
  · have hw := hw.1 c6
    exact w_X4_mustName_54 HE hr f0 hw
  · have hw := hw.2 c6
    refine x_aload_n HE 0 dX4_mustName_9 rfl rfl ?_
    refine x_ldcS (k := 4) HE dX4_mustName_10 (List.mem_of_getElem? (i := 42) rfl) (fun hp10 => ?_)
    refine x_callV HE dX4_mustName_12 rfl (fun l => k_X4_isWord (f0.ext (EB.tr E3)) l hw) (As := [rV (hF m3 0 5)]) (rest := []) rfl xc10 (Lay_X4.tag (f0.ext (EB.tr E3))) (lw_V q1985 q1987 qs60 q129 q1988) hy_X4_isWord rfl rfl (Nat.le_of_ble_eq_true rfl) (Nat.le_of_ble_eq_true rfl) (Nat.le_of_ble_eq_true rfl) (kkI (fun r12 m12 E12 hw => ?_))
    have hw := hw E12
    refine x_if_ne HE 54 dX4_mustName_15 (by decide) (fun c15 => ?_) (fun c15 => ?_)
    · have hw := hw.1 c15
      exact w_X4_mustName_54 HE hr f0 hw
    · have hw := hw.2 c15
      refine x_aload_n HE 0 dX4_mustName_18 rfl rfl ?_
      refine x_ldcS (k := 5) HE dX4_mustName_19 (List.mem_of_getElem? (i := 43) rfl) (fun hp19 => ?_)
      refine x_callV HE dX4_mustName_21 rfl (fun l => k_X4_isWord (f0.ext (EB.tr (E3.tr E12))) l hw) (As := [rV (hF m12 0 6)]) (rest := []) rfl xc10 (Lay_X4.tag (f0.ext (EB.tr (E3.tr E12)))) (lw_V q1985 q1987 qs60 q129 q1988) hy_X4_isWord rfl rfl (Nat.le_of_ble_eq_true rfl) (Nat.le_of_ble_eq_true rfl) (Nat.le_of_ble_eq_true rfl) (kkI (fun r21 m21 E21 hw => ?_))
      have hw := hw E21
      refine x_if_ne HE 54 dX4_mustName_24 (by decide) (fun c24 => ?_) (fun c24 => ?_)
      · have hw := hw.1 c24
        exact w_X4_mustName_54 HE hr f0 hw
      · have hw := hw.2 c24
        refine x_aload_n HE 0 dX4_mustName_27 rfl rfl ?_
        refine x_ldcS (k := 6) HE dX4_mustName_28 (List.mem_of_getElem? (i := 44) rfl) (fun hp28 => ?_)
        refine x_callV HE dX4_mustName_30 rfl (fun l => k_X4_isWord (f0.ext (EB.tr (E3.tr (E12.tr E21)))) l hw) (As := [rV (hF m21 0 7)]) (rest := []) rfl xc10 (Lay_X4.tag (f0.ext (EB.tr (E3.tr (E12.tr E21))))) (lw_V q1985 q1987 qs60 q129 q1988) hy_X4_isWord rfl rfl (Nat.le_of_ble_eq_true rfl) (Nat.le_of_ble_eq_true rfl) (Nat.le_of_ble_eq_true rfl) (kkI (fun r30 m30 E30 hw => ?_))
        have hw := hw E30
        refine x_if_ne HE 54 dX4_mustName_33 (by decide) (fun c33 => ?_) (fun c33 => ?_)
        · have hw := hw.1 c33
          exact w_X4_mustName_54 HE hr f0 hw
        · have hw := hw.2 c33
          refine x_aload_n HE 0 dX4_mustName_36 rfl rfl ?_
          refine x_ldcS (k := 7) HE dX4_mustName_37 (List.mem_of_getElem? (i := 45) rfl) (fun hp37 => ?_)
          refine x_callV HE dX4_mustName_39 rfl (fun l => k_X4_isWord (f0.ext (EB.tr (E3.tr (E12.tr (E21.tr E30))))) l hw) (As := [rV (hF m30 0 8)]) (rest := []) rfl xc10 (Lay_X4.tag (f0.ext (EB.tr (E3.tr (E12.tr (E21.tr E30)))))) (lw_V q1985 q1987 qs60 q129 q1988) hy_X4_isWord rfl rfl (Nat.le_of_ble_eq_true rfl) (Nat.le_of_ble_eq_true rfl) (Nat.le_of_ble_eq_true rfl) (kkI (fun r39 m39 E39 hw => ?_))
          have hw := hw E39
          refine x_if_ne HE 54 dX4_mustName_42 (by decide) (fun c42 => ?_) (fun c42 => ?_)
          · have hw := hw.1 c42
            exact w_X4_mustName_54 HE hr f0 hw
          · have hw := hw.2 c42
            refine x_aload_n HE 0 dX4_mustName_45 rfl rfl ?_
            refine x_ldcS (k := 8) HE dX4_mustName_46 (List.mem_of_getElem? (i := 46) rfl) (fun hp46 => ?_)
            refine x_callV HE dX4_mustName_48 rfl (fun l => k_X4_isWord (f0.ext (EB.tr (E3.tr (E12.tr (E21.tr (E30.tr E39)))))) l hw) (As := [rV (hF m39 0 9)]) (rest := []) rfl xc10 (Lay_X4.tag (f0.ext (EB.tr (E3.tr (E12.tr (E21.tr (E30.tr E39))))))) (lw_V q1985 q1987 qs60 q129 q1988) hy_X4_isWord rfl rfl (Nat.le_of_ble_eq_true rfl) (Nat.le_of_ble_eq_true rfl) (Nat.le_of_ble_eq_true rfl) (kkI (fun r48 m48 E48 hw => ?_))
            have hw := hw E48
            refine x_if_eq HE 58 dX4_mustName_51 (by decide) (fun c51 => ?_) (fun c51 => ?_)
            · have hw := hw.1 c51
              refine x_iconst HE dX4_mustName_58 (by decide) ?_
              exact w_X4_mustName_59 HE hr f0 hw
            · have hw := hw.2 c51
              exact w_X4_mustName_54 HE hr f0 hw
theorem k_X4_mustName {G : GT} {x0 : Int} {Q : Hp → Prop} {h : Hp} (f0 : Lay_X4 h x0) (l : Launch) (hw : g_X4_mustName x0 Q h) : XM G l yX4_mustName cX4_mustName 2 none 5 108 [rV x0] (QV Q) h :=
  XM.of (by decide) (Nat.le_of_ble_eq_true rfl) (fun X HE hr hn => w_X4_mustName_0 HE hr f0 hw)
def g_X4_find_b106 (x0 : Int) (Q : Int → Hp → Prop) (h : Hp) : Prop :=
  Q (-1) h
theorem w_X4_find_106 {G : GT} {X : ET} {h0 : Hp} {x0 : Int} (HE : XE G X cX4_find 4 RX4 0 0 h0) (hr : XR X (some .int)) (f0 : Lay_X4 h0 x0) {Q : Int → Hp → Prop} {h : Hp} (hw : g_X4_find_b106 x0 Q  h) : Wx G X h0 (QI Q) h 106 [some (rV x0), none, none, none] [] := by
  refine Wx.start (fun EB => ?_)
  unfold g_X4_find_b106 at hw
  refine x_iconst HE dX4_find_106 (by decide) ?_
  exact x_iret HE hr dX4_find_107 hw
def g_X4_find_b98 (x0 : Int) (Q : Int → Hp → Prop) (l1 : Int) (h : Hp) : Prop :=
  Q l1 h
theorem w_X4_find_98 {G : GT} {X : ET} {h0 : Hp} {x0 : Int} (HE : XE G X cX4_find 4 RX4 0 0 h0) (hr : XR X (some .int)) (f0 : Lay_X4 h0 x0) {Q : Int → Hp → Prop} {l1 : Int} {h : Hp} (hw : g_X4_find_b98 x0 Q l1 h) : Wx G X h0 (QI Q) h 98 [some (rV x0), some (iV l1), none, none] [] := by
  refine Wx.start (fun EB => ?_)
  unfold g_X4_find_b98 at hw
  refine x_iload_n HE 1 dX4_find_98 rfl rfl ?_
  exact x_iret HE hr dX4_find_99 hw
def g_X4_find_b94 (x0 : Int) (Q : Int → Hp → Prop) (K2 : Int → Hp → Prop) (l1 l2 : Int) (h : Hp) : Prop :=
  ((l2 = 0) → ((i32 (l1 + 1)) ∧ (∀ y100 : Int, y100 = l1 + 1 → (K2 y100 h)))) ∧ ((l2 ≠ 0) → (g_X4_find_b98 x0 Q l1 h))
theorem w_X4_find_94 {G : GT} {X : ET} {h0 : Hp} {x0 : Int} (HE : XE G X cX4_find 4 RX4 0 0 h0) (hr : XR X (some .int)) (f0 : Lay_X4 h0 x0) {Q : Int → Hp → Prop} {K2 : Int → Hp → Prop} (hK2 : ∀ (l1 : Int) (h : Hp), K2 l1 h → Wx G X h0 (QI Q) h 2 [some (rV x0), some (iV l1), none, none] []) {l1 l2 : Int} {h : Hp} (hw : g_X4_find_b94 x0 Q K2 l1 l2 h) : Wx G X h0 (QI Q) h 94 [some (rV x0), some (iV l1), some (iV l2), none] [] := by
  refine Wx.start (fun EB => ?_)
  unfold g_X4_find_b94 at hw
  refine x_iload_n HE 2 dX4_find_94 rfl rfl ?_
  refine x_if_eq HE 100 dX4_find_95 (by decide) (fun c95 => ?_) (fun c95 => ?_)
  · have hw := hw.1 c95
    obtain ⟨v100, hw⟩ := hw
    refine x_iincN HE (fun y100 => [some (rV x0), some (iV y100), some (iV l2), none]) dX4_find_100 rfl v100 (Nat.le_of_ble_eq_true rfl) (fun _ => rfl) (fun y100 ey100 => ?_)
    have hw := hw y100 ey100
    refine x_goto HE 2 dX4_find_103 (by decide) ?_
    refine Wx.mask [true, true, false, true] (lo2 := [some (rV x0), some (iV y100), none, none]) rfl ?_
    exact hK2 _ _ hw
  · have hw := hw.2 c95
    refine Wx.mask [true, true, false, true] (lo2 := [some (rV x0), some (iV l1), none, none]) rfl ?_
    exact w_X4_find_98 HE hr f0 hw
def g_X4_find_b87 (x0 : Int) (Q : Int → Hp → Prop) (K2 : Int → Hp → Prop) (K46 : Int → Int → Int → Hp → Prop) (l1 l3 s0 : Int) (h : Hp) : Prop :=
  (i32 (l3 + 1)) ∧ (∀ y88 : Int, y88 = l3 + 1 → (K46 l1 s0 y88 h))
theorem w_X4_find_87 {G : GT} {X : ET} {h0 : Hp} {x0 : Int} (HE : XE G X cX4_find 4 RX4 0 0 h0) (hr : XR X (some .int)) (f0 : Lay_X4 h0 x0) {Q : Int → Hp → Prop} {K2 : Int → Hp → Prop} (hK2 : ∀ (l1 : Int) (h : Hp), K2 l1 h → Wx G X h0 (QI Q) h 2 [some (rV x0), some (iV l1), none, none] []) {K46 : Int → Int → Int → Hp → Prop} (hK46 : ∀ (l1 l2 l3 : Int) (h : Hp), K46 l1 l2 l3 h → Wx G X h0 (QI Q) h 46 [some (rV x0), some (iV l1), some (iV l2), some (iV l3)] []) {l1 l3 s0 : Int} {h : Hp} (hw : g_X4_find_b87 x0 Q K2 K46 l1 l3 s0 h) : Wx G X h0 (QI Q) h 87 [some (rV x0), some (iV l1), none, some (iV l3)] [iV s0] := by
  refine Wx.start (fun EB => ?_)
  unfold g_X4_find_b87 at hw
  refine x_istore_n HE 2 (lo' := [some (rV x0), some (iV l1), some (iV s0), some (iV l3)]) dX4_find_87 rfl (Nat.le_of_ble_eq_true rfl) rfl ?_
  obtain ⟨v88, hw⟩ := hw
  refine x_iincN HE (fun y88 => [some (rV x0), some (iV l1), some (iV s0), some (iV y88)]) dX4_find_88 rfl v88 (Nat.le_of_ble_eq_true rfl) (fun _ => rfl) (fun y88 ey88 => ?_)
  have hw := hw y88 ey88
  refine x_goto HE 46 dX4_find_91 (by decide) ?_
  exact hK46 _ _ _ _ hw
def g_X4_find_L46 (x0 : Int) (Q : Int → Hp → Prop) (K2 : Int → Hp → Prop) (K46 : Int → Int → Int → Hp → Prop) (l1 l2 l3 : Int) (h : Hp) : Prop :=
  (((hF h x0 8) ≤ l3) → (g_X4_find_b94 x0 Q K2 l1 l2 h)) ∧ ((l3 < (hF h x0 8)) → (((l2 = 0) → (g_X4_find_b94 x0 Q K2 l1 l2 h)) ∧ ((l2 ≠ 0) → ((i32 (8 * l1)) ∧ ((i32 (203 + (8 * l1))) ∧ ((i32 ((203 + (8 * l1)) + l3)) ∧ (((0 : Int) ≤ ((203 + (8 * l1)) + l3) ∧ ((203 + (8 * l1)) + l3) < 347) ∧ (((0 : Int) ≤ l3 ∧ l3 < 8) ∧ ((((hA h (x0 + 4) ((203 + (8 * l1)) + l3)) ≠ (hA h (x0 + 2) l3)) → (g_X4_find_b87 x0 Q K2 K46 l1 l3 0 h)) ∧ (((hA h (x0 + 4) ((203 + (8 * l1)) + l3)) = (hA h (x0 + 2) l3)) → (g_X4_find_b87 x0 Q K2 K46 l1 l3 1 h)))))))))))
theorem w_X4_find_46 {G : GT} {X : ET} {h0 : Hp} {x0 : Int} (HE : XE G X cX4_find 4 RX4 0 0 h0) (hr : XR X (some .int)) (f0 : Lay_X4 h0 x0) {Q : Int → Hp → Prop} {K2 : Int → Hp → Prop} (hK2 : ∀ (l1 : Int) (h : Hp), K2 l1 h → Wx G X h0 (QI Q) h 2 [some (rV x0), some (iV l1), none, none] []) {K46 : Int → Int → Int → Hp → Prop} (hK46 : ∀ (l1 l2 l3 : Int) (h : Hp), K46 l1 l2 l3 h → Wx G X h0 (QI Q) h 46 [some (rV x0), some (iV l1), some (iV l2), some (iV l3)] []) {l1 l2 l3 : Int} {h : Hp} (hw : g_X4_find_L46 x0 Q K2 K46 l1 l2 l3 h) : Wx G X h0 (QI Q) h 46 [some (rV x0), some (iV l1), some (iV l2), some (iV l3)] [] := by
  refine Wx.start (fun EB => ?_)
  unfold g_X4_find_L46 at hw
  refine x_iload_n HE 3 dX4_find_46 rfl rfl ?_
  refine x_aload_n HE 0 dX4_find_47 rfl rfl ?_
  refine x_gI HE dX4_find_48 fd_X4_8 q1845 (Or.inl rfl) (Lay_X4.tag (f0.ext EB)) rfl ?_
  refine x_ic_ge HE 94 dX4_find_51 (by decide) (fun c51 => ?_) (fun c51 => ?_)
  · have hw := hw.1 c51
    refine Wx.mask [true, true, true, false] (lo2 := [some (rV x0), some (iV l1), some (iV l2), none]) rfl ?_
    exact w_X4_find_94 HE hr f0 hK2 hw
  · have hw := hw.2 c51
    refine x_iload_n HE 2 dX4_find_54 rfl rfl ?_
    refine x_if_eq HE 94 dX4_find_55 (by decide) (fun c55 => ?_) (fun c55 => ?_)
    · have hw := hw.1 c55
      refine Wx.mask [true, true, true, false] (lo2 := [some (rV x0), some (iV l1), some (iV l2), none]) rfl ?_
      exact w_X4_find_94 HE hr f0 hK2 hw
    · have hw := hw.2 c55
      refine x_aload_n HE 0 dX4_find_58 rfl rfl ?_
      refine x_gR HE dX4_find_59 fd_X4_16 q1853 (Or.inl rfl) (Lay_X4.tag (f0.ext EB)) (Lay_X4_16 (f0.ext EB)).1 ?_
      refine x_sipush HE dX4_find_62 (by decide) ?_
      refine x_bipush HE dX4_find_65 (by decide) ?_
      refine x_iload_n HE 1 dX4_find_67 rfl rfl ?_
      obtain ⟨v68, hw⟩ := hw
      refine x_imul HE dX4_find_68 v68 ?_
      obtain ⟨v69, hw⟩ := hw
      refine x_iadd HE dX4_find_69 v69 ?_
      refine x_iload_n HE 3 dX4_find_70 rfl rfl ?_
      obtain ⟨v71, hw⟩ := hw
      refine x_iadd HE dX4_find_71 v71 ?_
      obtain ⟨i72, hw⟩ := hw
      refine x_iald HE dX4_find_72 (t := 1) (by decide) ((Lay_X4_16 (f0.ext EB)).2.1) (ix_of ((Lay_X4_16 (f0.ext EB)).2.2) i72) rfl ?_
      refine x_aload_n HE 0 dX4_find_73 rfl rfl ?_
      refine x_gR HE dX4_find_74 fd_X4_12 q1849 (Or.inl rfl) (Lay_X4.tag (f0.ext EB)) (Lay_X4_12 (f0.ext EB)).1 ?_
      refine x_iload_n HE 3 dX4_find_77 rfl rfl ?_
      obtain ⟨i78, hw⟩ := hw
      refine x_iald HE dX4_find_78 (t := 1) (by decide) ((Lay_X4_12 (f0.ext EB)).2.1) (ix_of ((Lay_X4_12 (f0.ext EB)).2.2) i78) rfl ?_
      refine x_ic_ne HE 86 dX4_find_79 (by decide) (fun c79 => ?_) (fun c79 => ?_)
      · have hw := hw.1 c79
        refine x_iconst HE dX4_find_86 (by decide) ?_
        refine Wx.mask [true, true, false, true] (lo2 := [some (rV x0), some (iV l1), none, some (iV l3)]) rfl ?_
        exact w_X4_find_87 HE hr f0 hK2 hK46 hw
      · have hw := hw.2 c79
        refine x_iconst HE dX4_find_82 (by decide) ?_
        refine x_goto HE 87 dX4_find_83 (by decide) ?_
        refine Wx.mask [true, true, false, true] (lo2 := [some (rV x0), some (iV l1), none, some (iV l3)]) rfl ?_
        exact w_X4_find_87 HE hr f0 hK2 hK46 hw
theorem wl_X4_find_46 {G : GT} {X : ET} {h0 : Hp} {x0 : Int} (HE : XE G X cX4_find 4 RX4 0 0 h0) (hr : XR X (some .int)) (f0 : Lay_X4 h0 x0) {Q : Int → Hp → Prop} {K2 : Int → Hp → Prop} (hK2 : ∀ (l1 : Int) (h : Hp), K2 l1 h → Wx G X h0 (QI Q) h 2 [some (rV x0), some (iV l1), none, none] []) {l1 l2 l3 : Int} {h : Hp} (hw : Lp3 (g_X4_find_L46 x0 Q K2) l1 l2 l3 h) : Wx G X h0 (QI Q) h 46 [some (rV x0), some (iV l1), some (iV l2), some (iV l3)] [] := by
  obtain ⟨n, hw⟩ := hw
  induction n generalizing l1 l2 l3 h with
  | zero => exact hw.elim
  | succ n ih => exact w_X4_find_46 HE hr f0 hK2 (fun _ _ _ _ hk => ih hk) hw
def g_X4_find_b43 (x0 : Int) (Q : Int → Hp → Prop) (K2 : Int → Hp → Prop) (l1 s0 : Int) (h : Hp) : Prop :=
  Lp3 (g_X4_find_L46 x0 Q K2) l1 s0 0 h
theorem w_X4_find_43 {G : GT} {X : ET} {h0 : Hp} {x0 : Int} (HE : XE G X cX4_find 4 RX4 0 0 h0) (hr : XR X (some .int)) (f0 : Lay_X4 h0 x0) {Q : Int → Hp → Prop} {K2 : Int → Hp → Prop} (hK2 : ∀ (l1 : Int) (h : Hp), K2 l1 h → Wx G X h0 (QI Q) h 2 [some (rV x0), some (iV l1), none, none] []) {l1 s0 : Int} {h : Hp} (hw : g_X4_find_b43 x0 Q K2 l1 s0 h) : Wx G X h0 (QI Q) h 43 [some (rV x0), some (iV l1), none, none] [iV s0] := by
  refine Wx.start (fun EB => ?_)
  unfold g_X4_find_b43 at hw
  refine x_istore_n HE 2 (lo' := [some (rV x0), some (iV l1), some (iV s0), none]) dX4_find_43 rfl (Nat.le_of_ble_eq_true rfl) rfl ?_
  refine x_iconst HE dX4_find_44 (by decide) ?_
  refine x_istore_n HE 3 (lo' := [some (rV x0), some (iV l1), some (iV s0), some (iV 0)]) dX4_find_45 rfl (Nat.le_of_ble_eq_true rfl) rfl ?_
  exact wl_X4_find_46 HE hr f0 hK2 hw
def g_X4_find_b42 (x0 : Int) (Q : Int → Hp → Prop) (K2 : Int → Hp → Prop) (l1 : Int) (h : Hp) : Prop :=
  g_X4_find_b43 x0 Q K2 l1 0 h
theorem w_X4_find_42 {G : GT} {X : ET} {h0 : Hp} {x0 : Int} (HE : XE G X cX4_find 4 RX4 0 0 h0) (hr : XR X (some .int)) (f0 : Lay_X4 h0 x0) {Q : Int → Hp → Prop} {K2 : Int → Hp → Prop} (hK2 : ∀ (l1 : Int) (h : Hp), K2 l1 h → Wx G X h0 (QI Q) h 2 [some (rV x0), some (iV l1), none, none] []) {l1 : Int} {h : Hp} (hw : g_X4_find_b42 x0 Q K2 l1 h) : Wx G X h0 (QI Q) h 42 [some (rV x0), some (iV l1), none, none] [] := by
  refine Wx.start (fun EB => ?_)
  unfold g_X4_find_b42 at hw
  refine x_iconst HE dX4_find_42 (by decide) ?_
  exact w_X4_find_43 HE hr f0 hK2 hw
def g_X4_find_L2 (x0 : Int) (Q : Int → Hp → Prop) (K2 : Int → Hp → Prop) (l1 : Int) (h : Hp) : Prop :=
  ((18 ≤ l1) → (g_X4_find_b106 x0 Q h)) ∧ ((l1 < 18) → ((i32 (185 + l1)) ∧ (((0 : Int) ≤ (185 + l1) ∧ (185 + l1) < 347) ∧ ((((hA h (x0 + 4) (185 + l1)) ≤ 0) → (g_X4_find_b42 x0 Q K2 l1 h)) ∧ ((0 < (hA h (x0 + 4) (185 + l1))) → ((i32 (185 + l1)) ∧ (((0 : Int) ≤ (185 + l1) ∧ (185 + l1) < 347) ∧ ((((hA h (x0 + 4) (185 + l1)) ≠ (hF h x0 8)) → (g_X4_find_b42 x0 Q K2 l1 h)) ∧ (((hA h (x0 + 4) (185 + l1)) = (hF h x0 8)) → (g_X4_find_b43 x0 Q K2 l1 1 h))))))))))
theorem w_X4_find_2 {G : GT} {X : ET} {h0 : Hp} {x0 : Int} (HE : XE G X cX4_find 4 RX4 0 0 h0) (hr : XR X (some .int)) (f0 : Lay_X4 h0 x0) {Q : Int → Hp → Prop} {K2 : Int → Hp → Prop} (hK2 : ∀ (l1 : Int) (h : Hp), K2 l1 h → Wx G X h0 (QI Q) h 2 [some (rV x0), some (iV l1), none, none] []) {l1 : Int} {h : Hp} (hw : g_X4_find_L2 x0 Q K2 l1 h) : Wx G X h0 (QI Q) h 2 [some (rV x0), some (iV l1), none, none] [] := by
  refine Wx.start (fun EB => ?_)
  unfold g_X4_find_L2 at hw
  refine x_iload_n HE 1 dX4_find_2 rfl rfl ?_
  refine x_bipush HE dX4_find_3 (by decide) ?_
  refine x_ic_ge HE 106 dX4_find_5 (by decide) (fun c5 => ?_) (fun c5 => ?_)
  · have hw := hw.1 c5
    refine Wx.mask [true, false, true, true] (lo2 := [some (rV x0), none, none, none]) rfl ?_
    exact w_X4_find_106 HE hr f0 hw
  · have hw := hw.2 c5
    refine x_aload_n HE 0 dX4_find_8 rfl rfl ?_
    refine x_gR HE dX4_find_9 fd_X4_16 q1853 (Or.inl rfl) (Lay_X4.tag (f0.ext EB)) (Lay_X4_16 (f0.ext EB)).1 ?_
    refine x_sipush HE dX4_find_12 (by decide) ?_
    refine x_iload_n HE 1 dX4_find_15 rfl rfl ?_
    obtain ⟨v16, hw⟩ := hw
    refine x_iadd HE dX4_find_16 v16 ?_
    obtain ⟨i17, hw⟩ := hw
    refine x_iald HE dX4_find_17 (t := 1) (by decide) ((Lay_X4_16 (f0.ext EB)).2.1) (ix_of ((Lay_X4_16 (f0.ext EB)).2.2) i17) rfl ?_
    refine x_if_le HE 42 dX4_find_18 (by decide) (fun c18 => ?_) (fun c18 => ?_)
    · have hw := hw.1 c18
      exact w_X4_find_42 HE hr f0 hK2 hw
    · have hw := hw.2 c18
      refine x_aload_n HE 0 dX4_find_21 rfl rfl ?_
      refine x_gR HE dX4_find_22 fd_X4_16 q1853 (Or.inl rfl) (Lay_X4.tag (f0.ext EB)) (Lay_X4_16 (f0.ext EB)).1 ?_
      refine x_sipush HE dX4_find_25 (by decide) ?_
      refine x_iload_n HE 1 dX4_find_28 rfl rfl ?_
      obtain ⟨v29, hw⟩ := hw
      refine x_iadd HE dX4_find_29 v29 ?_
      obtain ⟨i30, hw⟩ := hw
      refine x_iald HE dX4_find_30 (t := 1) (by decide) ((Lay_X4_16 (f0.ext EB)).2.1) (ix_of ((Lay_X4_16 (f0.ext EB)).2.2) i30) rfl ?_
      refine x_aload_n HE 0 dX4_find_31 rfl rfl ?_
      refine x_gI HE dX4_find_32 fd_X4_8 q1845 (Or.inl rfl) (Lay_X4.tag (f0.ext EB)) rfl ?_
      refine x_ic_ne HE 42 dX4_find_35 (by decide) (fun c35 => ?_) (fun c35 => ?_)
      · have hw := hw.1 c35
        exact w_X4_find_42 HE hr f0 hK2 hw
      · have hw := hw.2 c35
        refine x_iconst HE dX4_find_38 (by decide) ?_
        refine x_goto HE 43 dX4_find_39 (by decide) ?_
        exact w_X4_find_43 HE hr f0 hK2 hw
theorem wl_X4_find_2 {G : GT} {X : ET} {h0 : Hp} {x0 : Int} (HE : XE G X cX4_find 4 RX4 0 0 h0) (hr : XR X (some .int)) (f0 : Lay_X4 h0 x0) {Q : Int → Hp → Prop} {l1 : Int} {h : Hp} (hw : Lp1 (g_X4_find_L2 x0 Q) l1 h) : Wx G X h0 (QI Q) h 2 [some (rV x0), some (iV l1), none, none] [] := by
  obtain ⟨n, hw⟩ := hw
  induction n generalizing l1 h with
  | zero => exact hw.elim
  | succ n ih => exact w_X4_find_2 HE hr f0 (fun _ _ hk => ih hk) hw
def g_X4_find (x0 : Int) (Q : Int → Hp → Prop) (h : Hp) : Prop :=
  Lp1 (g_X4_find_L2 x0 Q) 0 h
theorem w_X4_find_0 {G : GT} {X : ET} {h0 : Hp} {x0 : Int} (HE : XE G X cX4_find 4 RX4 0 0 h0) (hr : XR X (some .int)) (f0 : Lay_X4 h0 x0) {Q : Int → Hp → Prop} {h : Hp} (hw : g_X4_find x0 Q h) : Wx G X h0 (QI Q) h 0 [some (rV x0), none, none, none] [] := by
  refine Wx.start (fun EB => ?_)
  unfold g_X4_find at hw
  refine x_iconst HE dX4_find_0 (by decide) ?_
  refine x_istore_n HE 1 (lo' := [some (rV x0), some (iV 0), none, none]) dX4_find_1 rfl (Nat.le_of_ble_eq_true rfl) rfl ?_
  exact wl_X4_find_2 HE hr f0 hw
theorem k_X4_find {G : GT} {x0 : Int} {Q : Int → Hp → Prop} {h : Hp} (f0 : Lay_X4 h x0) (l : Launch) (hw : g_X4_find x0 Q h) : XM G l yX4_find cX4_find 4 (some .int) 0 0 [rV x0] (QI Q) h :=
  XM.of (by decide) (Nat.le_of_ble_eq_true rfl) (fun X HE hr hn => w_X4_find_0 HE hr f0 hw)
def g_X4_newName_b80 (x0 x1 : Int) (Q : Hp → Prop) (h : Hp) : Prop :=
  (i32 (185 + x1)) ∧ (((0 : Int) ≤ (185 + x1) ∧ (185 + x1) < 347) ∧ (∀ m93 : Hp, m93 = setA h (x0 + 4) (185 + x1) (hF h x0 8) → (g_X4_nextToken x0 (fun m95 => Ext m93 m95 → (Q m95)) m93)))
theorem w_X4_newName_80 {G : GT} {X : ET} {h0 : Hp} {x0 x1 : Int} (HE : XE G X cX4_newName 3 RX4 6 129 h0) (hr : XR X none) (f0 : Lay_X4 h0 x0) {Q : Hp → Prop} {h : Hp} (hw : g_X4_newName_b80 x0 x1 Q  h) : Wx G X h0 (QV Q) h 80 [some (rV x0), some (iV x1), none] [] := by
  refine Wx.start (fun EB => ?_)
  unfold g_X4_newName_b80 at hw
  refine x_aload_n HE 0 dX4_newName_80 rfl rfl ?_
  refine x_gR HE dX4_newName_81 fd_X4_16 q1853 (Or.inl rfl) (Lay_X4.tag (f0.ext EB)) (Lay_X4_16 (f0.ext EB)).1 ?_
  refine x_sipush HE dX4_newName_84 (by decide) ?_
  refine x_iload_n HE 1 dX4_newName_87 rfl rfl ?_
  obtain ⟨v88, hw⟩ := hw
  refine x_iadd HE dX4_newName_88 v88 ?_
  refine x_aload_n HE 0 dX4_newName_89 rfl rfl ?_
  refine x_gI HE dX4_newName_90 fd_X4_8 q1845 (Or.inl rfl) (Lay_X4.tag (f0.ext EB)) rfl ?_
  obtain ⟨i93, hw⟩ := hw
  refine x_iast HE dX4_newName_93 ((Lay_X4_16 (f0.ext EB)).2.1) (ix_of ((Lay_X4_16 (f0.ext EB)).2.2) i93) (fun m93 em93 E93 => ?_)
  have hw := hw m93 em93
  refine x_aload_n HE 0 dX4_newName_94 rfl rfl ?_
  refine x_callV HE dX4_newName_95 rfl (fun l => k_X4_nextToken (f0.ext (EB.tr E93)) l hw) (As := []) (rest := []) rfl xc10 (Lay_X4.tag (f0.ext (EB.tr E93))) (lw_V q1966 q1968 qs57 q129 q1969) hy_X4_nextToken rfl rfl (Nat.le_of_ble_eq_true rfl) (Nat.le_of_ble_eq_true rfl) (Nat.le_of_ble_eq_true rfl) (kkV (fun m95 E95 hw => ?_))
  have hw := hw E95
  exact x_vret HE hr dX4_newName_98 hw
def g_X4_newName_L45 (x0 x1 : Int) (Q : Hp → Prop) (K45 : Int → Hp → Prop) (l2 : Int) (h : Hp) : Prop :=
  (((hF h x0 8) ≤ l2) → (g_X4_newName_b80 x0 x1 Q h)) ∧ ((l2 < (hF h x0 8)) → ((i32 (8 * x1)) ∧ ((i32 (203 + (8 * x1))) ∧ ((i32 ((203 + (8 * x1)) + l2)) ∧ (((0 : Int) ≤ l2 ∧ l2 < 8) ∧ (((0 : Int) ≤ ((203 + (8 * x1)) + l2) ∧ ((203 + (8 * x1)) + l2) < 347) ∧ (∀ m73 : Hp, m73 = setA h (x0 + 4) ((203 + (8 * x1)) + l2) (hA h (x0 + 2) l2) → ((i32 (l2 + 1)) ∧ (∀ y74 : Int, y74 = l2 + 1 → (K45 y74 m73))))))))))
theorem w_X4_newName_45 {G : GT} {X : ET} {h0 : Hp} {x0 x1 : Int} (HE : XE G X cX4_newName 3 RX4 6 129 h0) (hr : XR X none) (f0 : Lay_X4 h0 x0) {Q : Hp → Prop} {K45 : Int → Hp → Prop} (hK45 : ∀ (l2 : Int) (h : Hp), K45 l2 h → Wx G X h0 (QV Q) h 45 [some (rV x0), some (iV x1), some (iV l2)] []) {l2 : Int} {h : Hp} (hw : g_X4_newName_L45 x0 x1 Q K45 l2 h) : Wx G X h0 (QV Q) h 45 [some (rV x0), some (iV x1), some (iV l2)] [] := by
  refine Wx.start (fun EB => ?_)
  unfold g_X4_newName_L45 at hw
  refine x_iload_n HE 2 dX4_newName_45 rfl rfl ?_
  refine x_aload_n HE 0 dX4_newName_46 rfl rfl ?_
  refine x_gI HE dX4_newName_47 fd_X4_8 q1845 (Or.inl rfl) (Lay_X4.tag (f0.ext EB)) rfl ?_
  refine x_ic_ge HE 80 dX4_newName_50 (by decide) (fun c50 => ?_) (fun c50 => ?_)
  · have hw := hw.1 c50
    refine Wx.mask [true, true, false] (lo2 := [some (rV x0), some (iV x1), none]) rfl ?_
    exact w_X4_newName_80 HE hr f0 hw
  · have hw := hw.2 c50
    refine x_aload_n HE 0 dX4_newName_53 rfl rfl ?_
    refine x_gR HE dX4_newName_54 fd_X4_16 q1853 (Or.inl rfl) (Lay_X4.tag (f0.ext EB)) (Lay_X4_16 (f0.ext EB)).1 ?_
    refine x_sipush HE dX4_newName_57 (by decide) ?_
    refine x_bipush HE dX4_newName_60 (by decide) ?_
    refine x_iload_n HE 1 dX4_newName_62 rfl rfl ?_
    obtain ⟨v63, hw⟩ := hw
    refine x_imul HE dX4_newName_63 v63 ?_
    obtain ⟨v64, hw⟩ := hw
    refine x_iadd HE dX4_newName_64 v64 ?_
    refine x_iload_n HE 2 dX4_newName_65 rfl rfl ?_
    obtain ⟨v66, hw⟩ := hw
    refine x_iadd HE dX4_newName_66 v66 ?_
    refine x_aload_n HE 0 dX4_newName_67 rfl rfl ?_
    refine x_gR HE dX4_newName_68 fd_X4_12 q1849 (Or.inl rfl) (Lay_X4.tag (f0.ext EB)) (Lay_X4_12 (f0.ext EB)).1 ?_
    refine x_iload_n HE 2 dX4_newName_71 rfl rfl ?_
    obtain ⟨i72, hw⟩ := hw
    refine x_iald HE dX4_newName_72 (t := 1) (by decide) ((Lay_X4_12 (f0.ext EB)).2.1) (ix_of ((Lay_X4_12 (f0.ext EB)).2.2) i72) rfl ?_
    obtain ⟨i73, hw⟩ := hw
    refine x_iast HE dX4_newName_73 ((Lay_X4_16 (f0.ext EB)).2.1) (ix_of ((Lay_X4_16 (f0.ext EB)).2.2) i73) (fun m73 em73 E73 => ?_)
    have hw := hw m73 em73
    obtain ⟨v74, hw⟩ := hw
    refine x_iincN HE (fun y74 => [some (rV x0), some (iV x1), some (iV y74)]) dX4_newName_74 rfl v74 (Nat.le_of_ble_eq_true rfl) (fun _ => rfl) (fun y74 ey74 => ?_)
    have hw := hw y74 ey74
    refine x_goto HE 45 dX4_newName_77 (by decide) ?_
    exact hK45 _ _ hw
theorem wl_X4_newName_45 {G : GT} {X : ET} {h0 : Hp} {x0 x1 : Int} (HE : XE G X cX4_newName 3 RX4 6 129 h0) (hr : XR X none) (f0 : Lay_X4 h0 x0) {Q : Hp → Prop} {l2 : Int} {h : Hp} (hw : Lp1 (g_X4_newName_L45 x0 x1 Q) l2 h) : Wx G X h0 (QV Q) h 45 [some (rV x0), some (iV x1), some (iV l2)] [] := by
  obtain ⟨n, hw⟩ := hw
  induction n generalizing l2 h with
  | zero => exact hw.elim
  | succ n ih => exact w_X4_newName_45 HE hr f0 (fun _ _ hk => ih hk) hw
def g_X4_newName_b35 (x0 x1 : Int) (Q : Hp → Prop) (h : Hp) : Prop :=
  (((hF h x0 13) = 0) → (Lp1 (g_X4_newName_L45 x0 x1 Q) 0 h)) ∧ (((hF h x0 13) ≠ 0) → (Q h))
theorem w_X4_newName_35 {G : GT} {X : ET} {h0 : Hp} {x0 x1 : Int} (HE : XE G X cX4_newName 3 RX4 6 129 h0) (hr : XR X none) (f0 : Lay_X4 h0 x0) {Q : Hp → Prop} {h : Hp} (hw : g_X4_newName_b35 x0 x1 Q  h) : Wx G X h0 (QV Q) h 35 [some (rV x0), some (iV x1), none] [] := by
  refine Wx.start (fun EB => ?_)
  unfold g_X4_newName_b35 at hw
  refine x_aload_n HE 0 dX4_newName_35 rfl rfl ?_
  refine x_gI HE dX4_newName_36 fd_X4_13 q1850 (Or.inl rfl) (Lay_X4.tag (f0.ext EB)) rfl ?_
  refine x_if_eq HE 43 dX4_newName_39 (by decide) (fun c39 => ?_) (fun c39 => ?_)
  · have hw := hw.1 c39
    refine x_iconst HE dX4_newName_43 (by decide) ?_
    refine x_istore_n HE 2 (lo' := [some (rV x0), some (iV x1), some (iV 0)]) dX4_newName_44 rfl (Nat.le_of_ble_eq_true rfl) rfl ?_
    exact wl_X4_newName_45 HE hr f0 hw
  · have hw := hw.2 c39
    exact x_vret HE hr dX4_newName_42 hw
def g_X4_newName (x0 x1 : Int) (Q : Hp → Prop) (h : Hp) : Prop :=
  (((hF h x0 13) = 0) → (g_X4_mustName x0 (fun m9 => Ext h m9 → ((((hF m9 x0 13) ≠ 0) → (g_X4_newName_b35 x0 x1 Q m9)) ∧ (((hF m9 x0 13) = 0) → (g_X4_find x0 (fun r20 m20 => Ext m9 m20 → (((r20 < 0) → (g_X4_newName_b35 x0 x1 Q m20)) ∧ ((0 ≤ r20) → (g_X4_wrong x0 3 (hF m20 x0 4) (fun m32 => Ext m20 m32 → (g_X4_newName_b35 x0 x1 Q m32)) m20)))) m9)))) h)) ∧ (((hF h x0 13) ≠ 0) → (Q h))
theorem w_X4_newName_0 {G : GT} {X : ET} {h0 : Hp} {x0 x1 : Int} (HE : XE G X cX4_newName 3 RX4 6 129 h0) (hr : XR X none) (f0 : Lay_X4 h0 x0) {Q : Hp → Prop} {h : Hp} (hw : g_X4_newName x0 x1 Q h) : Wx G X h0 (QV Q) h 0 [some (rV x0), some (iV x1), none] [] := by
  refine Wx.start (fun EB => ?_)
  unfold g_X4_newName at hw
  refine x_aload_n HE 0 dX4_newName_0 rfl rfl ?_
  refine x_gI HE dX4_newName_1 fd_X4_13 q1850 (Or.inl rfl) (Lay_X4.tag (f0.ext EB)) rfl ?_
  refine x_if_eq HE 8 dX4_newName_4 (by decide) (fun c4 => ?_) (fun c4 => ?_)
  · have hw := hw.1 c4
    refine x_aload_n HE 0 dX4_newName_8 rfl rfl ?_
    refine x_callV HE dX4_newName_9 rfl (fun l => k_X4_mustName (f0.ext EB) l hw) (As := []) (rest := []) rfl xc10 (Lay_X4.tag (f0.ext EB)) (lw_V q2047 q2049 qs70 q129 q2050) hy_X4_mustName rfl rfl (Nat.le_of_ble_eq_true rfl) (Nat.le_of_ble_eq_true rfl) (Nat.le_of_ble_eq_true rfl) (kkV (fun m9 E9 hw => ?_))
    have hw := hw E9
    refine x_aload_n HE 0 dX4_newName_12 rfl rfl ?_
    refine x_gI HE dX4_newName_13 fd_X4_13 q1850 (Or.inl rfl) (Lay_X4.tag (f0.ext (EB.tr E9))) rfl ?_
    refine x_if_ne HE 35 dX4_newName_16 (by decide) (fun c16 => ?_) (fun c16 => ?_)
    · have hw := hw.1 c16
      exact w_X4_newName_35 HE hr f0 hw
    · have hw := hw.2 c16
      refine x_aload_n HE 0 dX4_newName_19 rfl rfl ?_
      refine x_callV HE dX4_newName_20 rfl (fun l => k_X4_find (f0.ext (EB.tr E9)) l hw) (As := []) (rest := []) rfl xc10 (Lay_X4.tag (f0.ext (EB.tr E9))) (lw_V q2055 q2057 qs71 q129 q2058) hy_X4_find rfl rfl (Nat.le_of_ble_eq_true rfl) (Nat.le_of_ble_eq_true rfl) (Nat.le_of_ble_eq_true rfl) (kkI (fun r20 m20 E20 hw => ?_))
      have hw := hw E20
      refine x_if_lt HE 35 dX4_newName_23 (by decide) (fun c23 => ?_) (fun c23 => ?_)
      · have hw := hw.1 c23
        exact w_X4_newName_35 HE hr f0 hw
      · have hw := hw.2 c23
        refine x_aload_n HE 0 dX4_newName_26 rfl rfl ?_
        refine x_iconst HE dX4_newName_27 (by decide) ?_
        refine x_aload_n HE 0 dX4_newName_28 rfl rfl ?_
        refine x_gI HE dX4_newName_29 fd_X4_4 q1841 (Or.inl rfl) (Lay_X4.tag (f0.ext (EB.tr (E9.tr E20)))) rfl ?_
        refine x_callV HE dX4_newName_32 rfl (fun l => k_X4_wrong (f0.ext (EB.tr (E9.tr E20))) l hw) (As := [iV 3, iV (hF m20 x0 4)]) (rest := []) rfl xc10 (Lay_X4.tag (f0.ext (EB.tr (E9.tr E20)))) (lw_V q2012 q2014 qs62 q129 q2015) hy_X4_wrong rfl rfl (Nat.le_of_ble_eq_true rfl) (Nat.le_of_ble_eq_true rfl) (Nat.le_of_ble_eq_true rfl) (kkV (fun m32 E32 hw => ?_))
        have hw := hw E32
        exact w_X4_newName_35 HE hr f0 hw
  · have hw := hw.2 c4
    exact x_vret HE hr dX4_newName_7 hw
theorem k_X4_newName {G : GT} {x0 x1 : Int} {Q : Hp → Prop} {h : Hp} (f0 : Lay_X4 h x0) (l : Launch) (hw : g_X4_newName x0 x1 Q h) : XM G l yX4_newName cX4_newName 3 none 6 129 [rV x0, iV x1] (QV Q) h :=
  XM.of (by decide) (Nat.le_of_ble_eq_true rfl) (fun X HE hr hn => w_X4_newName_0 HE hr f0 hw)
def g_X4_drinkLine_b100 (x0 : Int) (Q : Hp → Prop) (h : Hp) : Prop :=
  Q h
theorem w_X4_drinkLine_100 {G : GT} {X : ET} {h0 : Hp} {x0 : Int} (HE : XE G X cX4_drinkLine 2 RX4 8 173 h0) (hr : XR X none) (f0 : Lay_X4 h0 x0) {Q : Hp → Prop} {h : Hp} (hw : g_X4_drinkLine_b100 x0 Q  h) : Wx G X h0 (QV Q) h 100 [some (rV x0), none] [] := by
  refine Wx.start (fun EB => ?_)
  unfold g_X4_drinkLine_b100 at hw
  exact x_vret HE hr dX4_drinkLine_100 hw
def g_X4_drinkLine (x0 : Int) (Q : Hp → Prop) (h : Hp) : Prop :=
  (((hF h x0 13) = 0) → ((i32 (3 * (hA h (x0 + 4) 3))) ∧ ((i32 (8 + (3 * (hA h (x0 + 4) 3)))) ∧ (∀ y19 : Int, y19 = (8 + (3 * (hA h (x0 + 4) 3))) → (g_X4_newName x0 (hA h (x0 + 4) 3) (fun m27 => Ext h m27 → (g_X4_after x0 (hF m27 0 10) 1 90 (fun r41 m41 => Ext m27 m41 → (((0 : Int) ≤ y19 ∧ y19 < 347) ∧ (∀ m44 : Hp, m44 = setA m41 (x0 + 4) y19 r41 → ((i32 (y19 + 1)) ∧ (((0 : Int) ≤ y19 ∧ y19 < 347) ∧ (g_X4_after x0 (hF m44 0 11) 0 (hA m44 (x0 + 4) y19) (fun r62 m62 => Ext m44 m62 → (((0 : Int) ≤ (y19 + 1) ∧ (y19 + 1) < 347) ∧ (∀ m65 : Hp, m65 = setA m62 (x0 + 4) (y19 + 1) r62 → ((i32 (y19 + 2)) ∧ (g_X4_after x0 (hF m65 0 12) 0 99 (fun r79 m79 => Ext m65 m79 → (((0 : Int) ≤ (y19 + 2) ∧ (y19 + 2) < 347) ∧ (∀ m82 : Hp, m82 = setA m79 (x0 + 4) (y19 + 2) r79 → ((((hF m82 x0 13) ≠ 0) → (g_X4_drinkLine_b100 x0 Q m82)) ∧ (((hF m82 x0 13) = 0) → ((i32 ((hA m82 (x0 + 4) 3) + 1)) ∧ (∀ m99 : Hp, m99 = setA m82 (x0 + 4) 3 ((hA m82 (x0 + 4) 3) + 1) → (g_X4_drinkLine_b100 x0 Q m99)))))))) m65))))) m44)))))) m27)) h))))) ∧ (((hF h x0 13) ≠ 0) → (Q h))
theorem w_X4_drinkLine_0 {G : GT} {X : ET} {h0 : Hp} {x0 : Int} (HE : XE G X cX4_drinkLine 2 RX4 8 173 h0) (hr : XR X none) (f0 : Lay_X4 h0 x0) {Q : Hp → Prop} {h : Hp} (hw : g_X4_drinkLine x0 Q h) : Wx G X h0 (QV Q) h 0 [some (rV x0), none] [] := by
  refine Wx.start (fun EB => ?_)
  unfold g_X4_drinkLine at hw
  refine x_aload_n HE 0 dX4_drinkLine_0 rfl rfl ?_
  refine x_gI HE dX4_drinkLine_1 fd_X4_13 q1850 (Or.inl rfl) (Lay_X4.tag (f0.ext EB)) rfl ?_
  refine x_if_eq HE 8 dX4_drinkLine_4 (by decide) (fun c4 => ?_) (fun c4 => ?_)
  · have hw := hw.1 c4
    refine x_bipush HE dX4_drinkLine_8 (by decide) ?_
    refine x_iconst HE dX4_drinkLine_10 (by decide) ?_
    refine x_aload_n HE 0 dX4_drinkLine_11 rfl rfl ?_
    refine x_gR HE dX4_drinkLine_12 fd_X4_16 q1853 (Or.inl rfl) (Lay_X4.tag (f0.ext EB)) (Lay_X4_16 (f0.ext EB)).1 ?_
    refine x_iconst HE dX4_drinkLine_15 (by decide) ?_
    refine x_iald HE dX4_drinkLine_16 (t := 1) (by decide) ((Lay_X4_16 (f0.ext EB)).2.1) (ix_of ((Lay_X4_16 (f0.ext EB)).2.2) (by decide)) rfl ?_
    obtain ⟨v17, hw⟩ := hw
    refine x_imul HE dX4_drinkLine_17 v17 ?_
    obtain ⟨v18, hw⟩ := hw
    refine x_iadd HE dX4_drinkLine_18 v18 ?_
    refine x_istore_nN HE 1 (fun y19 => [some (rV x0), some (iV y19)]) dX4_drinkLine_19 rfl (Nat.le_of_ble_eq_true rfl) (fun _ => rfl) (fun y19 ey19 => ?_)
    have hw := hw y19 ey19
    refine x_aload_n HE 0 dX4_drinkLine_20 rfl rfl ?_
    refine x_aload_n HE 0 dX4_drinkLine_21 rfl rfl ?_
    refine x_gR HE dX4_drinkLine_22 fd_X4_16 q1853 (Or.inl rfl) (Lay_X4.tag (f0.ext EB)) (Lay_X4_16 (f0.ext EB)).1 ?_
    refine x_iconst HE dX4_drinkLine_25 (by decide) ?_
    refine x_iald HE dX4_drinkLine_26 (t := 1) (by decide) ((Lay_X4_16 (f0.ext EB)).2.1) (ix_of ((Lay_X4_16 (f0.ext EB)).2.2) (by decide)) rfl ?_
    refine x_callV HE dX4_drinkLine_27 rfl (fun l => k_X4_newName (f0.ext EB) l hw) (As := [iV (hA h (x0 + 4) 3)]) (rest := []) rfl xc10 (Lay_X4.tag (f0.ext EB)) (lw_V q2043 q2045 qs69 q129 q2046) hy_X4_newName rfl rfl (Nat.le_of_ble_eq_true rfl) (Nat.le_of_ble_eq_true rfl) (Nat.le_of_ble_eq_true rfl) (kkV (fun m27 E27 hw => ?_))
    have hw := hw E27
    refine x_aload_n HE 0 dX4_drinkLine_30 rfl rfl ?_
    refine x_gR HE dX4_drinkLine_31 fd_X4_16 q1853 (Or.inl rfl) (Lay_X4.tag (f0.ext (EB.tr E27))) (Lay_X4_16 (f0.ext (EB.tr E27))).1 ?_
    refine x_iload_n HE 1 dX4_drinkLine_34 rfl rfl ?_
    refine x_aload_n HE 0 dX4_drinkLine_35 rfl rfl ?_
    refine x_ldcS (k := 9) HE dX4_drinkLine_36 (List.mem_of_getElem? (i := 47) rfl) (fun hp36 => ?_)
    refine x_iconst HE dX4_drinkLine_38 (by decide) ?_
    refine x_bipush HE dX4_drinkLine_39 (by decide) ?_
    refine x_callV HE dX4_drinkLine_41 rfl (fun l => k_X4_after (f0.ext (EB.tr E27)) l hw) (As := [rV (hF m27 0 10), iV 1, iV 90]) (rest := [iV y19, rV (x0 + 4)]) rfl xc10 (Lay_X4.tag (f0.ext (EB.tr E27))) (lw_V q2017 q2019 qs63 q129 q2020) hy_X4_after rfl rfl (Nat.le_of_ble_eq_true rfl) (Nat.le_of_ble_eq_true rfl) (Nat.le_of_ble_eq_true rfl) (kkI (fun r41 m41 E41 hw => ?_))
    have hw := hw E41
    obtain ⟨i44, hw⟩ := hw
    refine x_iast HE dX4_drinkLine_44 ((Lay_X4_16 (f0.ext (EB.tr (E27.tr E41)))).2.1) (ix_of ((Lay_X4_16 (f0.ext (EB.tr (E27.tr E41)))).2.2) i44) (fun m44 em44 E44 => ?_)
    have hw := hw m44 em44
    refine x_aload_n HE 0 dX4_drinkLine_45 rfl rfl ?_
    refine x_gR HE dX4_drinkLine_46 fd_X4_16 q1853 (Or.inl rfl) (Lay_X4.tag (f0.ext (EB.tr (E27.tr (E41.tr E44))))) (Lay_X4_16 (f0.ext (EB.tr (E27.tr (E41.tr E44))))).1 ?_
    refine x_iload_n HE 1 dX4_drinkLine_49 rfl rfl ?_
    refine x_iconst HE dX4_drinkLine_50 (by decide) ?_
    obtain ⟨v51, hw⟩ := hw
    refine x_iadd HE dX4_drinkLine_51 v51 ?_
    refine x_aload_n HE 0 dX4_drinkLine_52 rfl rfl ?_
    refine x_ldcS (k := 10) HE dX4_drinkLine_53 (List.mem_of_getElem? (i := 48) rfl) (fun hp53 => ?_)
    refine x_iconst HE dX4_drinkLine_55 (by decide) ?_
    refine x_aload_n HE 0 dX4_drinkLine_56 rfl rfl ?_
    refine x_gR HE dX4_drinkLine_57 fd_X4_16 q1853 (Or.inl rfl) (Lay_X4.tag (f0.ext (EB.tr (E27.tr (E41.tr E44))))) (Lay_X4_16 (f0.ext (EB.tr (E27.tr (E41.tr E44))))).1 ?_
    refine x_iload_n HE 1 dX4_drinkLine_60 rfl rfl ?_
    obtain ⟨i61, hw⟩ := hw
    refine x_iald HE dX4_drinkLine_61 (t := 1) (by decide) ((Lay_X4_16 (f0.ext (EB.tr (E27.tr (E41.tr E44))))).2.1) (ix_of ((Lay_X4_16 (f0.ext (EB.tr (E27.tr (E41.tr E44))))).2.2) i61) rfl ?_
    refine x_callV HE dX4_drinkLine_62 rfl (fun l => k_X4_after (f0.ext (EB.tr (E27.tr (E41.tr E44)))) l hw) (As := [rV (hF m44 0 11), iV 0, iV (hA m44 (x0 + 4) y19)]) (rest := [iV (y19 + 1), rV (x0 + 4)]) rfl xc10 (Lay_X4.tag (f0.ext (EB.tr (E27.tr (E41.tr E44))))) (lw_V q2017 q2019 qs63 q129 q2020) hy_X4_after rfl rfl (Nat.le_of_ble_eq_true rfl) (Nat.le_of_ble_eq_true rfl) (Nat.le_of_ble_eq_true rfl) (kkI (fun r62 m62 E62 hw => ?_))
    have hw := hw E62
    obtain ⟨i65, hw⟩ := hw
    refine x_iast HE dX4_drinkLine_65 ((Lay_X4_16 (f0.ext (EB.tr (E27.tr (E41.tr (E44.tr E62)))))).2.1) (ix_of ((Lay_X4_16 (f0.ext (EB.tr (E27.tr (E41.tr (E44.tr E62)))))).2.2) i65) (fun m65 em65 E65 => ?_)
    have hw := hw m65 em65
    refine x_aload_n HE 0 dX4_drinkLine_66 rfl rfl ?_
    refine x_gR HE dX4_drinkLine_67 fd_X4_16 q1853 (Or.inl rfl) (Lay_X4.tag (f0.ext (EB.tr (E27.tr (E41.tr (E44.tr (E62.tr E65))))))) (Lay_X4_16 (f0.ext (EB.tr (E27.tr (E41.tr (E44.tr (E62.tr E65))))))).1 ?_
    refine x_iload_n HE 1 dX4_drinkLine_70 rfl rfl ?_
    refine x_iconst HE dX4_drinkLine_71 (by decide) ?_
    obtain ⟨v72, hw⟩ := hw
    refine x_iadd HE dX4_drinkLine_72 v72 ?_
    refine x_aload_n HE 0 dX4_drinkLine_73 rfl rfl ?_
    refine x_ldcS (k := 11) HE dX4_drinkLine_74 (List.mem_of_getElem? (i := 49) rfl) (fun hp74 => ?_)
    refine x_iconst HE dX4_drinkLine_76 (by decide) ?_
    refine x_bipush HE dX4_drinkLine_77 (by decide) ?_
    refine x_callV HE dX4_drinkLine_79 rfl (fun l => k_X4_after (f0.ext (EB.tr (E27.tr (E41.tr (E44.tr (E62.tr E65)))))) l hw) (As := [rV (hF m65 0 12), iV 0, iV 99]) (rest := [iV (y19 + 2), rV (x0 + 4)]) rfl xc10 (Lay_X4.tag (f0.ext (EB.tr (E27.tr (E41.tr (E44.tr (E62.tr E65))))))) (lw_V q2017 q2019 qs63 q129 q2020) hy_X4_after rfl rfl (Nat.le_of_ble_eq_true rfl) (Nat.le_of_ble_eq_true rfl) (Nat.le_of_ble_eq_true rfl) (kkI (fun r79 m79 E79 hw => ?_))
    have hw := hw E79
    obtain ⟨i82, hw⟩ := hw
    refine x_iast HE dX4_drinkLine_82 ((Lay_X4_16 (f0.ext (EB.tr (E27.tr (E41.tr (E44.tr (E62.tr (E65.tr E79)))))))).2.1) (ix_of ((Lay_X4_16 (f0.ext (EB.tr (E27.tr (E41.tr (E44.tr (E62.tr (E65.tr E79)))))))).2.2) i82) (fun m82 em82 E82 => ?_)
    have hw := hw m82 em82
    refine x_aload_n HE 0 dX4_drinkLine_83 rfl rfl ?_
    refine x_gI HE dX4_drinkLine_84 fd_X4_13 q1850 (Or.inl rfl) (Lay_X4.tag (f0.ext (EB.tr (E27.tr (E41.tr (E44.tr (E62.tr (E65.tr (E79.tr E82))))))))) rfl ?_
    refine x_if_ne HE 100 dX4_drinkLine_87 (by decide) (fun c87 => ?_) (fun c87 => ?_)
    · have hw := hw.1 c87
      refine Wx.mask [true, false] (lo2 := [some (rV x0), none]) rfl ?_
      exact w_X4_drinkLine_100 HE hr f0 hw
    · have hw := hw.2 c87
      refine x_aload_n HE 0 dX4_drinkLine_90 rfl rfl ?_
      refine x_gR HE dX4_drinkLine_91 fd_X4_16 q1853 (Or.inl rfl) (Lay_X4.tag (f0.ext (EB.tr (E27.tr (E41.tr (E44.tr (E62.tr (E65.tr (E79.tr E82))))))))) (Lay_X4_16 (f0.ext (EB.tr (E27.tr (E41.tr (E44.tr (E62.tr (E65.tr (E79.tr E82))))))))).1 ?_
      refine x_iconst HE dX4_drinkLine_94 (by decide) ?_
      refine x_dup2 HE dX4_drinkLine_95 (fun o => o) (fun o => o) ?_
      refine x_iald HE dX4_drinkLine_96 (t := 1) (by decide) ((Lay_X4_16 (f0.ext (EB.tr (E27.tr (E41.tr (E44.tr (E62.tr (E65.tr (E79.tr E82))))))))).2.1) (ix_of ((Lay_X4_16 (f0.ext (EB.tr (E27.tr (E41.tr (E44.tr (E62.tr (E65.tr (E79.tr E82))))))))).2.2) (by decide)) rfl ?_
      refine x_iconst HE dX4_drinkLine_97 (by decide) ?_
      obtain ⟨v98, hw⟩ := hw
      refine x_iadd HE dX4_drinkLine_98 v98 ?_
      refine x_iast HE dX4_drinkLine_99 ((Lay_X4_16 (f0.ext (EB.tr (E27.tr (E41.tr (E44.tr (E62.tr (E65.tr (E79.tr E82))))))))).2.1) (ix_of ((Lay_X4_16 (f0.ext (EB.tr (E27.tr (E41.tr (E44.tr (E62.tr (E65.tr (E79.tr E82))))))))).2.2) (by decide)) (fun m99 em99 E99 => ?_)
      have hw := hw m99 em99
      refine Wx.mask [true, false] (lo2 := [some (rV x0), none]) rfl ?_
      exact w_X4_drinkLine_100 HE hr f0 hw
  · have hw := hw.2 c4
    exact x_vret HE hr dX4_drinkLine_7 hw
theorem k_X4_drinkLine {G : GT} {x0 : Int} {Q : Hp → Prop} {h : Hp} (f0 : Lay_X4 h x0) (l : Launch) (hw : g_X4_drinkLine x0 Q h) : XM G l yX4_drinkLine cX4_drinkLine 2 none 8 173 [rV x0] (QV Q) h :=
  XM.of (by decide) (Nat.le_of_ble_eq_true rfl) (fun X HE hr hn => w_X4_drinkLine_0 HE hr f0 hw)
def g_X4_staffLine_b260 (x0 : Int) (Q : Hp → Prop) (h : Hp) : Prop :=
  Q h
theorem w_X4_staffLine_260 {G : GT} {X : ET} {h0 : Hp} {x0 : Int} (HE : XE G X cX4_staffLine 3 RX4 8 173 h0) (hr : XR X none) (f0 : Lay_X4 h0 x0) {Q : Hp → Prop} {h : Hp} (hw : g_X4_staffLine_b260 x0 Q  h) : Wx G X h0 (QV Q) h 260 [some (rV x0), none, none] [] := by
  refine Wx.start (fun EB => ?_)
  unfold g_X4_staffLine_b260 at hw
  exact x_vret HE hr dX4_staffLine_260 hw
def g_X4_staffLine_b113 (x0 : Int) (Q : Hp → Prop) (l1 l2 : Int) (h : Hp) : Prop :=
  (((hF h x0 13) = 0) → (g_X4_nextToken x0 (fun m122 => Ext h m122 → ((i32 (l1 + 0)) ∧ (((0 : Int) ≤ (l1 + 0) ∧ (l1 + 0) < 347) ∧ (∀ m133 : Hp, m133 = setA m122 (x0 + 4) (l1 + 0) l2 → ((i32 (l1 + 1)) ∧ ((i32 ((hA m133 (x0 + 4) 1) - 1)) ∧ (g_X4_after x0 (hF m133 0 18) 0 ((hA m133 (x0 + 4) 1) - 1) (fun r153 m153 => Ext m133 m153 → (((0 : Int) ≤ (l1 + 1) ∧ (l1 + 1) < 347) ∧ (∀ m156 : Hp, m156 = setA m153 (x0 + 4) (l1 + 1) r153 → ((i32 (l1 + 2)) ∧ ((i32 ((hA m156 (x0 + 4) 1) - 1)) ∧ (g_X4_after x0 (hF m156 0 19) 0 ((hA m156 (x0 + 4) 1) - 1) (fun r176 m176 => Ext m156 m176 → (((0 : Int) ≤ (l1 + 2) ∧ (l1 + 2) < 347) ∧ (∀ m179 : Hp, m179 = setA m176 (x0 + 4) (l1 + 2) r176 → ((i32 (l1 + 3)) ∧ ((i32 (l1 + 2)) ∧ (((0 : Int) ≤ (l1 + 2) ∧ (l1 + 2) < 347) ∧ ((i32 ((hA m179 (x0 + 4) 1) - 1)) ∧ (g_X4_after x0 (hF m179 0 20) (hA m179 (x0 + 4) (l1 + 2)) ((hA m179 (x0 + 4) 1) - 1) (fun r206 m206 => Ext m179 m206 → (((0 : Int) ≤ (l1 + 3) ∧ (l1 + 3) < 347) ∧ (∀ m209 : Hp, m209 = setA m206 (x0 + 4) (l1 + 3) r206 → ((i32 (l1 + 4)) ∧ (g_X4_after x0 (hF m209 0 21) 0 9 (fun r223 m223 => Ext m209 m223 → (((0 : Int) ≤ (l1 + 4) ∧ (l1 + 4) < 347) ∧ (∀ m226 : Hp, m226 = setA m223 (x0 + 4) (l1 + 4) r223 → ((i32 (l1 + 5)) ∧ (g_X4_after x0 (hF m226 0 22) 1 2 (fun r239 m239 => Ext m226 m239 → (((0 : Int) ≤ (l1 + 5) ∧ (l1 + 5) < 347) ∧ (∀ m242 : Hp, m242 = setA m239 (x0 + 4) (l1 + 5) r239 → ((((hF m242 x0 13) ≠ 0) → (g_X4_staffLine_b260 x0 Q m242)) ∧ (((hF m242 x0 13) = 0) → ((i32 ((hA m242 (x0 + 4) 4) + 1)) ∧ (∀ m259 : Hp, m259 = setA m242 (x0 + 4) 4 ((hA m242 (x0 + 4) 4) + 1) → (g_X4_staffLine_b260 x0 Q m259)))))))) m226))))) m209))))) m179)))))))) m156)))))) m133))))))) h)) ∧ (((hF h x0 13) ≠ 0) → (Q h))
theorem w_X4_staffLine_113 {G : GT} {X : ET} {h0 : Hp} {x0 : Int} (HE : XE G X cX4_staffLine 3 RX4 8 173 h0) (hr : XR X none) (f0 : Lay_X4 h0 x0) {Q : Hp → Prop} {l1 l2 : Int} {h : Hp} (hw : g_X4_staffLine_b113 x0 Q l1 l2 h) : Wx G X h0 (QV Q) h 113 [some (rV x0), some (iV l1), some (iV l2)] [] := by
  refine Wx.start (fun EB => ?_)
  unfold g_X4_staffLine_b113 at hw
  refine x_aload_n HE 0 dX4_staffLine_113 rfl rfl ?_
  refine x_gI HE dX4_staffLine_114 fd_X4_13 q1850 (Or.inl rfl) (Lay_X4.tag (f0.ext EB)) rfl ?_
  refine x_if_eq HE 121 dX4_staffLine_117 (by decide) (fun c117 => ?_) (fun c117 => ?_)
  · have hw := hw.1 c117
    refine x_aload_n HE 0 dX4_staffLine_121 rfl rfl ?_
    refine x_callV HE dX4_staffLine_122 rfl (fun l => k_X4_nextToken (f0.ext EB) l hw) (As := []) (rest := []) rfl xc10 (Lay_X4.tag (f0.ext EB)) (lw_V q1966 q1968 qs57 q129 q1969) hy_X4_nextToken rfl rfl (Nat.le_of_ble_eq_true rfl) (Nat.le_of_ble_eq_true rfl) (Nat.le_of_ble_eq_true rfl) (kkV (fun m122 E122 hw => ?_))
    have hw := hw E122
    refine x_aload_n HE 0 dX4_staffLine_125 rfl rfl ?_
    refine x_gR HE dX4_staffLine_126 fd_X4_16 q1853 (Or.inl rfl) (Lay_X4.tag (f0.ext (EB.tr E122))) (Lay_X4_16 (f0.ext (EB.tr E122))).1 ?_
    refine x_iload_n HE 1 dX4_staffLine_129 rfl rfl ?_
    refine x_iconst HE dX4_staffLine_130 (by decide) ?_
    obtain ⟨v131, hw⟩ := hw
    refine x_iadd HE dX4_staffLine_131 v131 ?_
    refine x_iload_n HE 2 dX4_staffLine_132 rfl rfl ?_
    obtain ⟨i133, hw⟩ := hw
    refine x_iast HE dX4_staffLine_133 ((Lay_X4_16 (f0.ext (EB.tr E122))).2.1) (ix_of ((Lay_X4_16 (f0.ext (EB.tr E122))).2.2) i133) (fun m133 em133 E133 => ?_)
    have hw := hw m133 em133
    refine x_aload_n HE 0 dX4_staffLine_134 rfl rfl ?_
    refine x_gR HE dX4_staffLine_135 fd_X4_16 q1853 (Or.inl rfl) (Lay_X4.tag (f0.ext (EB.tr (E122.tr E133)))) (Lay_X4_16 (f0.ext (EB.tr (E122.tr E133)))).1 ?_
    refine x_iload_n HE 1 dX4_staffLine_138 rfl rfl ?_
    refine x_iconst HE dX4_staffLine_139 (by decide) ?_
    obtain ⟨v140, hw⟩ := hw
    refine x_iadd HE dX4_staffLine_140 v140 ?_
    refine x_aload_n HE 0 dX4_staffLine_141 rfl rfl ?_
    refine x_ldcS (k := 17) HE dX4_staffLine_142 (List.mem_of_getElem? (i := 55) rfl) (fun hp142 => ?_)
    refine x_iconst HE dX4_staffLine_144 (by decide) ?_
    refine x_aload_n HE 0 dX4_staffLine_145 rfl rfl ?_
    refine x_gR HE dX4_staffLine_146 fd_X4_16 q1853 (Or.inl rfl) (Lay_X4.tag (f0.ext (EB.tr (E122.tr E133)))) (Lay_X4_16 (f0.ext (EB.tr (E122.tr E133)))).1 ?_
    refine x_iconst HE dX4_staffLine_149 (by decide) ?_
    refine x_iald HE dX4_staffLine_150 (t := 1) (by decide) ((Lay_X4_16 (f0.ext (EB.tr (E122.tr E133)))).2.1) (ix_of ((Lay_X4_16 (f0.ext (EB.tr (E122.tr E133)))).2.2) (by decide)) rfl ?_
    refine x_iconst HE dX4_staffLine_151 (by decide) ?_
    obtain ⟨v152, hw⟩ := hw
    refine x_isub HE dX4_staffLine_152 v152 ?_
    refine x_callV HE dX4_staffLine_153 rfl (fun l => k_X4_after (f0.ext (EB.tr (E122.tr E133))) l hw) (As := [rV (hF m133 0 18), iV 0, iV ((hA m133 (x0 + 4) 1) - 1)]) (rest := [iV (l1 + 1), rV (x0 + 4)]) rfl xc10 (Lay_X4.tag (f0.ext (EB.tr (E122.tr E133)))) (lw_V q2017 q2019 qs63 q129 q2020) hy_X4_after rfl rfl (Nat.le_of_ble_eq_true rfl) (Nat.le_of_ble_eq_true rfl) (Nat.le_of_ble_eq_true rfl) (kkI (fun r153 m153 E153 hw => ?_))
    have hw := hw E153
    obtain ⟨i156, hw⟩ := hw
    refine x_iast HE dX4_staffLine_156 ((Lay_X4_16 (f0.ext (EB.tr (E122.tr (E133.tr E153))))).2.1) (ix_of ((Lay_X4_16 (f0.ext (EB.tr (E122.tr (E133.tr E153))))).2.2) i156) (fun m156 em156 E156 => ?_)
    have hw := hw m156 em156
    refine x_aload_n HE 0 dX4_staffLine_157 rfl rfl ?_
    refine x_gR HE dX4_staffLine_158 fd_X4_16 q1853 (Or.inl rfl) (Lay_X4.tag (f0.ext (EB.tr (E122.tr (E133.tr (E153.tr E156)))))) (Lay_X4_16 (f0.ext (EB.tr (E122.tr (E133.tr (E153.tr E156)))))).1 ?_
    refine x_iload_n HE 1 dX4_staffLine_161 rfl rfl ?_
    refine x_iconst HE dX4_staffLine_162 (by decide) ?_
    obtain ⟨v163, hw⟩ := hw
    refine x_iadd HE dX4_staffLine_163 v163 ?_
    refine x_aload_n HE 0 dX4_staffLine_164 rfl rfl ?_
    refine x_ldcS (k := 18) HE dX4_staffLine_165 (List.mem_of_getElem? (i := 56) rfl) (fun hp165 => ?_)
    refine x_iconst HE dX4_staffLine_167 (by decide) ?_
    refine x_aload_n HE 0 dX4_staffLine_168 rfl rfl ?_
    refine x_gR HE dX4_staffLine_169 fd_X4_16 q1853 (Or.inl rfl) (Lay_X4.tag (f0.ext (EB.tr (E122.tr (E133.tr (E153.tr E156)))))) (Lay_X4_16 (f0.ext (EB.tr (E122.tr (E133.tr (E153.tr E156)))))).1 ?_
    refine x_iconst HE dX4_staffLine_172 (by decide) ?_
    refine x_iald HE dX4_staffLine_173 (t := 1) (by decide) ((Lay_X4_16 (f0.ext (EB.tr (E122.tr (E133.tr (E153.tr E156)))))).2.1) (ix_of ((Lay_X4_16 (f0.ext (EB.tr (E122.tr (E133.tr (E153.tr E156)))))).2.2) (by decide)) rfl ?_
    refine x_iconst HE dX4_staffLine_174 (by decide) ?_
    obtain ⟨v175, hw⟩ := hw
    refine x_isub HE dX4_staffLine_175 v175 ?_
    refine x_callV HE dX4_staffLine_176 rfl (fun l => k_X4_after (f0.ext (EB.tr (E122.tr (E133.tr (E153.tr E156))))) l hw) (As := [rV (hF m156 0 19), iV 0, iV ((hA m156 (x0 + 4) 1) - 1)]) (rest := [iV (l1 + 2), rV (x0 + 4)]) rfl xc10 (Lay_X4.tag (f0.ext (EB.tr (E122.tr (E133.tr (E153.tr E156)))))) (lw_V q2017 q2019 qs63 q129 q2020) hy_X4_after rfl rfl (Nat.le_of_ble_eq_true rfl) (Nat.le_of_ble_eq_true rfl) (Nat.le_of_ble_eq_true rfl) (kkI (fun r176 m176 E176 hw => ?_))
    have hw := hw E176
    obtain ⟨i179, hw⟩ := hw
    refine x_iast HE dX4_staffLine_179 ((Lay_X4_16 (f0.ext (EB.tr (E122.tr (E133.tr (E153.tr (E156.tr E176))))))).2.1) (ix_of ((Lay_X4_16 (f0.ext (EB.tr (E122.tr (E133.tr (E153.tr (E156.tr E176))))))).2.2) i179) (fun m179 em179 E179 => ?_)
    have hw := hw m179 em179
    refine x_aload_n HE 0 dX4_staffLine_180 rfl rfl ?_
    refine x_gR HE dX4_staffLine_181 fd_X4_16 q1853 (Or.inl rfl) (Lay_X4.tag (f0.ext (EB.tr (E122.tr (E133.tr (E153.tr (E156.tr (E176.tr E179)))))))) (Lay_X4_16 (f0.ext (EB.tr (E122.tr (E133.tr (E153.tr (E156.tr (E176.tr E179)))))))).1 ?_
    refine x_iload_n HE 1 dX4_staffLine_184 rfl rfl ?_
    refine x_iconst HE dX4_staffLine_185 (by decide) ?_
    obtain ⟨v186, hw⟩ := hw
    refine x_iadd HE dX4_staffLine_186 v186 ?_
    refine x_aload_n HE 0 dX4_staffLine_187 rfl rfl ?_
    refine x_ldcS (k := 19) HE dX4_staffLine_188 (List.mem_of_getElem? (i := 57) rfl) (fun hp188 => ?_)
    refine x_aload_n HE 0 dX4_staffLine_190 rfl rfl ?_
    refine x_gR HE dX4_staffLine_191 fd_X4_16 q1853 (Or.inl rfl) (Lay_X4.tag (f0.ext (EB.tr (E122.tr (E133.tr (E153.tr (E156.tr (E176.tr E179)))))))) (Lay_X4_16 (f0.ext (EB.tr (E122.tr (E133.tr (E153.tr (E156.tr (E176.tr E179)))))))).1 ?_
    refine x_iload_n HE 1 dX4_staffLine_194 rfl rfl ?_
    refine x_iconst HE dX4_staffLine_195 (by decide) ?_
    obtain ⟨v196, hw⟩ := hw
    refine x_iadd HE dX4_staffLine_196 v196 ?_
    obtain ⟨i197, hw⟩ := hw
    refine x_iald HE dX4_staffLine_197 (t := 1) (by decide) ((Lay_X4_16 (f0.ext (EB.tr (E122.tr (E133.tr (E153.tr (E156.tr (E176.tr E179)))))))).2.1) (ix_of ((Lay_X4_16 (f0.ext (EB.tr (E122.tr (E133.tr (E153.tr (E156.tr (E176.tr E179)))))))).2.2) i197) rfl ?_
    refine x_aload_n HE 0 dX4_staffLine_198 rfl rfl ?_
    refine x_gR HE dX4_staffLine_199 fd_X4_16 q1853 (Or.inl rfl) (Lay_X4.tag (f0.ext (EB.tr (E122.tr (E133.tr (E153.tr (E156.tr (E176.tr E179)))))))) (Lay_X4_16 (f0.ext (EB.tr (E122.tr (E133.tr (E153.tr (E156.tr (E176.tr E179)))))))).1 ?_
    refine x_iconst HE dX4_staffLine_202 (by decide) ?_
    refine x_iald HE dX4_staffLine_203 (t := 1) (by decide) ((Lay_X4_16 (f0.ext (EB.tr (E122.tr (E133.tr (E153.tr (E156.tr (E176.tr E179)))))))).2.1) (ix_of ((Lay_X4_16 (f0.ext (EB.tr (E122.tr (E133.tr (E153.tr (E156.tr (E176.tr E179)))))))).2.2) (by decide)) rfl ?_
    refine x_iconst HE dX4_staffLine_204 (by decide) ?_
    obtain ⟨v205, hw⟩ := hw
    refine x_isub HE dX4_staffLine_205 v205 ?_
    refine x_callV HE dX4_staffLine_206 rfl (fun l => k_X4_after (f0.ext (EB.tr (E122.tr (E133.tr (E153.tr (E156.tr (E176.tr E179))))))) l hw) (As := [rV (hF m179 0 20), iV (hA m179 (x0 + 4) (l1 + 2)), iV ((hA m179 (x0 + 4) 1) - 1)]) (rest := [iV (l1 + 3), rV (x0 + 4)]) rfl xc10 (Lay_X4.tag (f0.ext (EB.tr (E122.tr (E133.tr (E153.tr (E156.tr (E176.tr E179)))))))) (lw_V q2017 q2019 qs63 q129 q2020) hy_X4_after rfl rfl (Nat.le_of_ble_eq_true rfl) (Nat.le_of_ble_eq_true rfl) (Nat.le_of_ble_eq_true rfl) (kkI (fun r206 m206 E206 hw => ?_))
    have hw := hw E206
    obtain ⟨i209, hw⟩ := hw
    refine x_iast HE dX4_staffLine_209 ((Lay_X4_16 (f0.ext (EB.tr (E122.tr (E133.tr (E153.tr (E156.tr (E176.tr (E179.tr E206))))))))).2.1) (ix_of ((Lay_X4_16 (f0.ext (EB.tr (E122.tr (E133.tr (E153.tr (E156.tr (E176.tr (E179.tr E206))))))))).2.2) i209) (fun m209 em209 E209 => ?_)
    have hw := hw m209 em209
    refine x_aload_n HE 0 dX4_staffLine_210 rfl rfl ?_
    refine x_gR HE dX4_staffLine_211 fd_X4_16 q1853 (Or.inl rfl) (Lay_X4.tag (f0.ext (EB.tr (E122.tr (E133.tr (E153.tr (E156.tr (E176.tr (E179.tr (E206.tr E209)))))))))) (Lay_X4_16 (f0.ext (EB.tr (E122.tr (E133.tr (E153.tr (E156.tr (E176.tr (E179.tr (E206.tr E209)))))))))).1 ?_
    refine x_iload_n HE 1 dX4_staffLine_214 rfl rfl ?_
    refine x_iconst HE dX4_staffLine_215 (by decide) ?_
    obtain ⟨v216, hw⟩ := hw
    refine x_iadd HE dX4_staffLine_216 v216 ?_
    refine x_aload_n HE 0 dX4_staffLine_217 rfl rfl ?_
    refine x_ldcS (k := 20) HE dX4_staffLine_218 (List.mem_of_getElem? (i := 58) rfl) (fun hp218 => ?_)
    refine x_iconst HE dX4_staffLine_220 (by decide) ?_
    refine x_bipush HE dX4_staffLine_221 (by decide) ?_
    refine x_callV HE dX4_staffLine_223 rfl (fun l => k_X4_after (f0.ext (EB.tr (E122.tr (E133.tr (E153.tr (E156.tr (E176.tr (E179.tr (E206.tr E209))))))))) l hw) (As := [rV (hF m209 0 21), iV 0, iV 9]) (rest := [iV (l1 + 4), rV (x0 + 4)]) rfl xc10 (Lay_X4.tag (f0.ext (EB.tr (E122.tr (E133.tr (E153.tr (E156.tr (E176.tr (E179.tr (E206.tr E209)))))))))) (lw_V q2017 q2019 qs63 q129 q2020) hy_X4_after rfl rfl (Nat.le_of_ble_eq_true rfl) (Nat.le_of_ble_eq_true rfl) (Nat.le_of_ble_eq_true rfl) (kkI (fun r223 m223 E223 hw => ?_))
    have hw := hw E223
    obtain ⟨i226, hw⟩ := hw
    refine x_iast HE dX4_staffLine_226 ((Lay_X4_16 (f0.ext (EB.tr (E122.tr (E133.tr (E153.tr (E156.tr (E176.tr (E179.tr (E206.tr (E209.tr E223))))))))))).2.1) (ix_of ((Lay_X4_16 (f0.ext (EB.tr (E122.tr (E133.tr (E153.tr (E156.tr (E176.tr (E179.tr (E206.tr (E209.tr E223))))))))))).2.2) i226) (fun m226 em226 E226 => ?_)
    have hw := hw m226 em226
    refine x_aload_n HE 0 dX4_staffLine_227 rfl rfl ?_
    refine x_gR HE dX4_staffLine_228 fd_X4_16 q1853 (Or.inl rfl) (Lay_X4.tag (f0.ext (EB.tr (E122.tr (E133.tr (E153.tr (E156.tr (E176.tr (E179.tr (E206.tr (E209.tr (E223.tr E226)))))))))))) (Lay_X4_16 (f0.ext (EB.tr (E122.tr (E133.tr (E153.tr (E156.tr (E176.tr (E179.tr (E206.tr (E209.tr (E223.tr E226)))))))))))).1 ?_
    refine x_iload_n HE 1 dX4_staffLine_231 rfl rfl ?_
    refine x_iconst HE dX4_staffLine_232 (by decide) ?_
    obtain ⟨v233, hw⟩ := hw
    refine x_iadd HE dX4_staffLine_233 v233 ?_
    refine x_aload_n HE 0 dX4_staffLine_234 rfl rfl ?_
    refine x_ldcS (k := 21) HE dX4_staffLine_235 (List.mem_of_getElem? (i := 59) rfl) (fun hp235 => ?_)
    refine x_iconst HE dX4_staffLine_237 (by decide) ?_
    refine x_iconst HE dX4_staffLine_238 (by decide) ?_
    refine x_callV HE dX4_staffLine_239 rfl (fun l => k_X4_after (f0.ext (EB.tr (E122.tr (E133.tr (E153.tr (E156.tr (E176.tr (E179.tr (E206.tr (E209.tr (E223.tr E226))))))))))) l hw) (As := [rV (hF m226 0 22), iV 1, iV 2]) (rest := [iV (l1 + 5), rV (x0 + 4)]) rfl xc10 (Lay_X4.tag (f0.ext (EB.tr (E122.tr (E133.tr (E153.tr (E156.tr (E176.tr (E179.tr (E206.tr (E209.tr (E223.tr E226)))))))))))) (lw_V q2017 q2019 qs63 q129 q2020) hy_X4_after rfl rfl (Nat.le_of_ble_eq_true rfl) (Nat.le_of_ble_eq_true rfl) (Nat.le_of_ble_eq_true rfl) (kkI (fun r239 m239 E239 hw => ?_))
    have hw := hw E239
    obtain ⟨i242, hw⟩ := hw
    refine x_iast HE dX4_staffLine_242 ((Lay_X4_16 (f0.ext (EB.tr (E122.tr (E133.tr (E153.tr (E156.tr (E176.tr (E179.tr (E206.tr (E209.tr (E223.tr (E226.tr E239))))))))))))).2.1) (ix_of ((Lay_X4_16 (f0.ext (EB.tr (E122.tr (E133.tr (E153.tr (E156.tr (E176.tr (E179.tr (E206.tr (E209.tr (E223.tr (E226.tr E239))))))))))))).2.2) i242) (fun m242 em242 E242 => ?_)
    have hw := hw m242 em242
    refine x_aload_n HE 0 dX4_staffLine_243 rfl rfl ?_
    refine x_gI HE dX4_staffLine_244 fd_X4_13 q1850 (Or.inl rfl) (Lay_X4.tag (f0.ext (EB.tr (E122.tr (E133.tr (E153.tr (E156.tr (E176.tr (E179.tr (E206.tr (E209.tr (E223.tr (E226.tr (E239.tr E242)))))))))))))) rfl ?_
    refine x_if_ne HE 260 dX4_staffLine_247 (by decide) (fun c247 => ?_) (fun c247 => ?_)
    · have hw := hw.1 c247
      refine Wx.mask [true, false, false] (lo2 := [some (rV x0), none, none]) rfl ?_
      exact w_X4_staffLine_260 HE hr f0 hw
    · have hw := hw.2 c247
      refine x_aload_n HE 0 dX4_staffLine_250 rfl rfl ?_
      refine x_gR HE dX4_staffLine_251 fd_X4_16 q1853 (Or.inl rfl) (Lay_X4.tag (f0.ext (EB.tr (E122.tr (E133.tr (E153.tr (E156.tr (E176.tr (E179.tr (E206.tr (E209.tr (E223.tr (E226.tr (E239.tr E242)))))))))))))) (Lay_X4_16 (f0.ext (EB.tr (E122.tr (E133.tr (E153.tr (E156.tr (E176.tr (E179.tr (E206.tr (E209.tr (E223.tr (E226.tr (E239.tr E242)))))))))))))).1 ?_
      refine x_iconst HE dX4_staffLine_254 (by decide) ?_
      refine x_dup2 HE dX4_staffLine_255 (fun o => o) (fun o => o) ?_
      refine x_iald HE dX4_staffLine_256 (t := 1) (by decide) ((Lay_X4_16 (f0.ext (EB.tr (E122.tr (E133.tr (E153.tr (E156.tr (E176.tr (E179.tr (E206.tr (E209.tr (E223.tr (E226.tr (E239.tr E242)))))))))))))).2.1) (ix_of ((Lay_X4_16 (f0.ext (EB.tr (E122.tr (E133.tr (E153.tr (E156.tr (E176.tr (E179.tr (E206.tr (E209.tr (E223.tr (E226.tr (E239.tr E242)))))))))))))).2.2) (by decide)) rfl ?_
      refine x_iconst HE dX4_staffLine_257 (by decide) ?_
      obtain ⟨v258, hw⟩ := hw
      refine x_iadd HE dX4_staffLine_258 v258 ?_
      refine x_iast HE dX4_staffLine_259 ((Lay_X4_16 (f0.ext (EB.tr (E122.tr (E133.tr (E153.tr (E156.tr (E176.tr (E179.tr (E206.tr (E209.tr (E223.tr (E226.tr (E239.tr E242)))))))))))))).2.1) (ix_of ((Lay_X4_16 (f0.ext (EB.tr (E122.tr (E133.tr (E153.tr (E156.tr (E176.tr (E179.tr (E206.tr (E209.tr (E223.tr (E226.tr (E239.tr E242)))))))))))))).2.2) (by decide)) (fun m259 em259 E259 => ?_)
      have hw := hw m259 em259
      refine Wx.mask [true, false, false] (lo2 := [some (rV x0), none, none]) rfl ?_
      exact w_X4_staffLine_260 HE hr f0 hw
  · have hw := hw.2 c117
    exact x_vret HE hr dX4_staffLine_120 hw
def g_X4_staffLine_b99 (x0 : Int) (Q : Hp → Prop) (l1 s0 : Int) (h : Hp) : Prop :=
  ((0 ≤ s0) → (g_X4_staffLine_b113 x0 Q l1 s0 h)) ∧ ((s0 < 0) → (g_X4_wrong x0 1 (hF h x0 4) (fun m110 => Ext h m110 → (g_X4_staffLine_b113 x0 Q l1 s0 m110)) h))
theorem w_X4_staffLine_99 {G : GT} {X : ET} {h0 : Hp} {x0 : Int} (HE : XE G X cX4_staffLine 3 RX4 8 173 h0) (hr : XR X none) (f0 : Lay_X4 h0 x0) {Q : Hp → Prop} {l1 s0 : Int} {h : Hp} (hw : g_X4_staffLine_b99 x0 Q l1 s0 h) : Wx G X h0 (QV Q) h 99 [some (rV x0), some (iV l1), none] [iV s0] := by
  refine Wx.start (fun EB => ?_)
  unfold g_X4_staffLine_b99 at hw
  refine x_istore_n HE 2 (lo' := [some (rV x0), some (iV l1), some (iV s0)]) dX4_staffLine_99 rfl (Nat.le_of_ble_eq_true rfl) rfl ?_
  refine x_iload_n HE 2 dX4_staffLine_100 rfl rfl ?_
  refine x_if_ge HE 113 dX4_staffLine_101 (by decide) (fun c101 => ?_) (fun c101 => ?_)
  · have hw := hw.1 c101
    exact w_X4_staffLine_113 HE hr f0 hw
  · have hw := hw.2 c101
    refine x_aload_n HE 0 dX4_staffLine_104 rfl rfl ?_
    refine x_iconst HE dX4_staffLine_105 (by decide) ?_
    refine x_aload_n HE 0 dX4_staffLine_106 rfl rfl ?_
    refine x_gI HE dX4_staffLine_107 fd_X4_4 q1841 (Or.inl rfl) (Lay_X4.tag (f0.ext EB)) rfl ?_
    refine x_callV HE dX4_staffLine_110 rfl (fun l => k_X4_wrong (f0.ext EB) l hw) (As := [iV 1, iV (hF h x0 4)]) (rest := []) rfl xc10 (Lay_X4.tag (f0.ext EB)) (lw_V q2012 q2014 qs62 q129 q2015) hy_X4_wrong rfl rfl (Nat.le_of_ble_eq_true rfl) (Nat.le_of_ble_eq_true rfl) (Nat.le_of_ble_eq_true rfl) (kkV (fun m110 E110 hw => ?_))
    have hw := hw E110
    exact w_X4_staffLine_113 HE hr f0 hw
def g_X4_staffLine (x0 : Int) (Q : Hp → Prop) (h : Hp) : Prop :=
  (((hF h x0 13) = 0) → ((i32 (6 * (hA h (x0 + 4) 4))) ∧ ((i32 (23 + (6 * (hA h (x0 + 4) 4)))) ∧ (∀ y20 : Int, y20 = (23 + (6 * (hA h (x0 + 4) 4))) → ((i32 (5 + (hA h (x0 + 4) 4))) ∧ (g_X4_newName x0 (5 + (hA h (x0 + 4) 4)) (fun m30 => Ext h m30 → (g_X4_isWord x0 (hF m30 0 13) (fun r36 m36 => Ext m30 m36 → (((r36 = 0) → (g_X4_isWord x0 (hF m36 0 14) (fun r49 m49 => Ext m36 m49 → (((r49 = 0) → (g_X4_isWord x0 (hF m49 0 15) (fun r62 m62 => Ext m49 m62 → (((r62 = 0) → (g_X4_isWord x0 (hF m62 0 16) (fun r75 m75 => Ext m62 m75 → (((r75 = 0) → (g_X4_isWord x0 (hF m75 0 17) (fun r88 m88 => Ext m75 m88 → (((r88 = 0) → (g_X4_staffLine_b99 x0 Q y20 (-1) m88)) ∧ ((r88 ≠ 0) → (g_X4_staffLine_b99 x0 Q y20 4 m88)))) m75)) ∧ ((r75 ≠ 0) → (g_X4_staffLine_b99 x0 Q y20 3 m75)))) m62)) ∧ ((r62 ≠ 0) → (g_X4_staffLine_b99 x0 Q y20 2 m62)))) m49)) ∧ ((r49 ≠ 0) → (g_X4_staffLine_b99 x0 Q y20 1 m49)))) m36)) ∧ ((r36 ≠ 0) → (g_X4_staffLine_b99 x0 Q y20 0 m36)))) m30)) h)))))) ∧ (((hF h x0 13) ≠ 0) → (Q h))
theorem w_X4_staffLine_0 {G : GT} {X : ET} {h0 : Hp} {x0 : Int} (HE : XE G X cX4_staffLine 3 RX4 8 173 h0) (hr : XR X none) (f0 : Lay_X4 h0 x0) {Q : Hp → Prop} {h : Hp} (hw : g_X4_staffLine x0 Q h) : Wx G X h0 (QV Q) h 0 [some (rV x0), none, none] [] := by
  refine Wx.start (fun EB => ?_)
  unfold g_X4_staffLine at hw
  refine x_aload_n HE 0 dX4_staffLine_0 rfl rfl ?_
  refine x_gI HE dX4_staffLine_1 fd_X4_13 q1850 (Or.inl rfl) (Lay_X4.tag (f0.ext EB)) rfl ?_
  refine x_if_eq HE 8 dX4_staffLine_4 (by decide) (fun c4 => ?_) (fun c4 => ?_)
  · have hw := hw.1 c4
    refine x_bipush HE dX4_staffLine_8 (by decide) ?_
    refine x_bipush HE dX4_staffLine_10 (by decide) ?_
    refine x_aload_n HE 0 dX4_staffLine_12 rfl rfl ?_
    refine x_gR HE dX4_staffLine_13 fd_X4_16 q1853 (Or.inl rfl) (Lay_X4.tag (f0.ext EB)) (Lay_X4_16 (f0.ext EB)).1 ?_
    refine x_iconst HE dX4_staffLine_16 (by decide) ?_
    refine x_iald HE dX4_staffLine_17 (t := 1) (by decide) ((Lay_X4_16 (f0.ext EB)).2.1) (ix_of ((Lay_X4_16 (f0.ext EB)).2.2) (by decide)) rfl ?_
    obtain ⟨v18, hw⟩ := hw
    refine x_imul HE dX4_staffLine_18 v18 ?_
    obtain ⟨v19, hw⟩ := hw
    refine x_iadd HE dX4_staffLine_19 v19 ?_
    refine x_istore_nN HE 1 (fun y20 => [some (rV x0), some (iV y20), none]) dX4_staffLine_20 rfl (Nat.le_of_ble_eq_true rfl) (fun _ => rfl) (fun y20 ey20 => ?_)
    have hw := hw y20 ey20
    refine x_aload_n HE 0 dX4_staffLine_21 rfl rfl ?_
    refine x_iconst HE dX4_staffLine_22 (by decide) ?_
    refine x_aload_n HE 0 dX4_staffLine_23 rfl rfl ?_
    refine x_gR HE dX4_staffLine_24 fd_X4_16 q1853 (Or.inl rfl) (Lay_X4.tag (f0.ext EB)) (Lay_X4_16 (f0.ext EB)).1 ?_
    refine x_iconst HE dX4_staffLine_27 (by decide) ?_
    refine x_iald HE dX4_staffLine_28 (t := 1) (by decide) ((Lay_X4_16 (f0.ext EB)).2.1) (ix_of ((Lay_X4_16 (f0.ext EB)).2.2) (by decide)) rfl ?_
    obtain ⟨v29, hw⟩ := hw
    refine x_iadd HE dX4_staffLine_29 v29 ?_
    refine x_callV HE dX4_staffLine_30 rfl (fun l => k_X4_newName (f0.ext EB) l hw) (As := [iV (5 + (hA h (x0 + 4) 4))]) (rest := []) rfl xc10 (Lay_X4.tag (f0.ext EB)) (lw_V q2043 q2045 qs69 q129 q2046) hy_X4_newName rfl rfl (Nat.le_of_ble_eq_true rfl) (Nat.le_of_ble_eq_true rfl) (Nat.le_of_ble_eq_true rfl) (kkV (fun m30 E30 hw => ?_))
    have hw := hw E30
    refine x_aload_n HE 0 dX4_staffLine_33 rfl rfl ?_
    refine x_ldcS (k := 12) HE dX4_staffLine_34 (List.mem_of_getElem? (i := 50) rfl) (fun hp34 => ?_)
    refine x_callV HE dX4_staffLine_36 rfl (fun l => k_X4_isWord (f0.ext (EB.tr E30)) l hw) (As := [rV (hF m30 0 13)]) (rest := []) rfl xc10 (Lay_X4.tag (f0.ext (EB.tr E30))) (lw_V q1985 q1987 qs60 q129 q1988) hy_X4_isWord rfl rfl (Nat.le_of_ble_eq_true rfl) (Nat.le_of_ble_eq_true rfl) (Nat.le_of_ble_eq_true rfl) (kkI (fun r36 m36 E36 hw => ?_))
    have hw := hw E36
    refine x_if_eq HE 46 dX4_staffLine_39 (by decide) (fun c39 => ?_) (fun c39 => ?_)
    · have hw := hw.1 c39
      refine x_aload_n HE 0 dX4_staffLine_46 rfl rfl ?_
      refine x_ldcS (k := 13) HE dX4_staffLine_47 (List.mem_of_getElem? (i := 51) rfl) (fun hp47 => ?_)
      refine x_callV HE dX4_staffLine_49 rfl (fun l => k_X4_isWord (f0.ext (EB.tr (E30.tr E36))) l hw) (As := [rV (hF m36 0 14)]) (rest := []) rfl xc10 (Lay_X4.tag (f0.ext (EB.tr (E30.tr E36)))) (lw_V q1985 q1987 qs60 q129 q1988) hy_X4_isWord rfl rfl (Nat.le_of_ble_eq_true rfl) (Nat.le_of_ble_eq_true rfl) (Nat.le_of_ble_eq_true rfl) (kkI (fun r49 m49 E49 hw => ?_))
      have hw := hw E49
      refine x_if_eq HE 59 dX4_staffLine_52 (by decide) (fun c52 => ?_) (fun c52 => ?_)
      · have hw := hw.1 c52
        refine x_aload_n HE 0 dX4_staffLine_59 rfl rfl ?_
        refine x_ldcS (k := 14) HE dX4_staffLine_60 (List.mem_of_getElem? (i := 52) rfl) (fun hp60 => ?_)
        refine x_callV HE dX4_staffLine_62 rfl (fun l => k_X4_isWord (f0.ext (EB.tr (E30.tr (E36.tr E49)))) l hw) (As := [rV (hF m49 0 15)]) (rest := []) rfl xc10 (Lay_X4.tag (f0.ext (EB.tr (E30.tr (E36.tr E49))))) (lw_V q1985 q1987 qs60 q129 q1988) hy_X4_isWord rfl rfl (Nat.le_of_ble_eq_true rfl) (Nat.le_of_ble_eq_true rfl) (Nat.le_of_ble_eq_true rfl) (kkI (fun r62 m62 E62 hw => ?_))
        have hw := hw E62
        refine x_if_eq HE 72 dX4_staffLine_65 (by decide) (fun c65 => ?_) (fun c65 => ?_)
        · have hw := hw.1 c65
          refine x_aload_n HE 0 dX4_staffLine_72 rfl rfl ?_
          refine x_ldcS (k := 15) HE dX4_staffLine_73 (List.mem_of_getElem? (i := 53) rfl) (fun hp73 => ?_)
          refine x_callV HE dX4_staffLine_75 rfl (fun l => k_X4_isWord (f0.ext (EB.tr (E30.tr (E36.tr (E49.tr E62))))) l hw) (As := [rV (hF m62 0 16)]) (rest := []) rfl xc10 (Lay_X4.tag (f0.ext (EB.tr (E30.tr (E36.tr (E49.tr E62)))))) (lw_V q1985 q1987 qs60 q129 q1988) hy_X4_isWord rfl rfl (Nat.le_of_ble_eq_true rfl) (Nat.le_of_ble_eq_true rfl) (Nat.le_of_ble_eq_true rfl) (kkI (fun r75 m75 E75 hw => ?_))
          have hw := hw E75
          refine x_if_eq HE 85 dX4_staffLine_78 (by decide) (fun c78 => ?_) (fun c78 => ?_)
          · have hw := hw.1 c78
            refine x_aload_n HE 0 dX4_staffLine_85 rfl rfl ?_
            refine x_ldcS (k := 16) HE dX4_staffLine_86 (List.mem_of_getElem? (i := 54) rfl) (fun hp86 => ?_)
            refine x_callV HE dX4_staffLine_88 rfl (fun l => k_X4_isWord (f0.ext (EB.tr (E30.tr (E36.tr (E49.tr (E62.tr E75)))))) l hw) (As := [rV (hF m75 0 17)]) (rest := []) rfl xc10 (Lay_X4.tag (f0.ext (EB.tr (E30.tr (E36.tr (E49.tr (E62.tr E75))))))) (lw_V q1985 q1987 qs60 q129 q1988) hy_X4_isWord rfl rfl (Nat.le_of_ble_eq_true rfl) (Nat.le_of_ble_eq_true rfl) (Nat.le_of_ble_eq_true rfl) (kkI (fun r88 m88 E88 hw => ?_))
            have hw := hw E88
            refine x_if_eq HE 98 dX4_staffLine_91 (by decide) (fun c91 => ?_) (fun c91 => ?_)
            · have hw := hw.1 c91
              refine x_iconst HE dX4_staffLine_98 (by decide) ?_
              exact w_X4_staffLine_99 HE hr f0 hw
            · have hw := hw.2 c91
              refine x_iconst HE dX4_staffLine_94 (by decide) ?_
              refine x_goto HE 99 dX4_staffLine_95 (by decide) ?_
              exact w_X4_staffLine_99 HE hr f0 hw
          · have hw := hw.2 c78
            refine x_iconst HE dX4_staffLine_81 (by decide) ?_
            refine x_goto HE 99 dX4_staffLine_82 (by decide) ?_
            exact w_X4_staffLine_99 HE hr f0 hw
        · have hw := hw.2 c65
          refine x_iconst HE dX4_staffLine_68 (by decide) ?_
          refine x_goto HE 99 dX4_staffLine_69 (by decide) ?_
          exact w_X4_staffLine_99 HE hr f0 hw
      · have hw := hw.2 c52
        refine x_iconst HE dX4_staffLine_55 (by decide) ?_
        refine x_goto HE 99 dX4_staffLine_56 (by decide) ?_
        exact w_X4_staffLine_99 HE hr f0 hw
    · have hw := hw.2 c39
      refine x_iconst HE dX4_staffLine_42 (by decide) ?_
      refine x_goto HE 99 dX4_staffLine_43 (by decide) ?_
      exact w_X4_staffLine_99 HE hr f0 hw
  · have hw := hw.2 c4
    exact x_vret HE hr dX4_staffLine_7 hw
theorem k_X4_staffLine {G : GT} {x0 : Int} {Q : Hp → Prop} {h : Hp} (f0 : Lay_X4 h x0) (l : Launch) (hw : g_X4_staffLine x0 Q h) : XM G l yX4_staffLine cX4_staffLine 3 none 8 173 [rV x0] (QV Q) h :=
  XM.of (by decide) (Nat.le_of_ble_eq_true rfl) (fun X HE hr hn => w_X4_staffLine_0 HE hr f0 hw)
def g_X4_named_b57 (x0 x1 x2 : Int) (Q : Int → Hp → Prop) (s0 : Int) (h : Hp) : Prop :=
  Q s0 h
theorem w_X4_named_57 {G : GT} {X : ET} {h0 : Hp} {x0 x1 x2 : Int} (HE : XE G X cX4_named 4 RX4 6 129 h0) (hr : XR X (some .int)) (f0 : Lay_X4 h0 x0) {Q : Int → Hp → Prop} {s0 : Int} {h : Hp} (hw : g_X4_named_b57 x0 x1 x2 Q s0 h) : Wx G X h0 (QI Q) h 57 [some (rV x0), some (iV x1), some (iV x2), none] [iV s0] := by
  refine Wx.start (fun EB => ?_)
  unfold g_X4_named_b57 at hw
  exact x_iret HE hr dX4_named_57 hw
def g_X4_named_b45 (x0 x1 x2 : Int) (Q : Int → Hp → Prop) (l3 : Int) (h : Hp) : Prop :=
  (((hF h x0 13) = 0) → (g_X4_named_b57 x0 x1 x2 Q l3 h)) ∧ (((hF h x0 13) ≠ 0) → (g_X4_named_b57 x0 x1 x2 Q x1 h))
theorem w_X4_named_45 {G : GT} {X : ET} {h0 : Hp} {x0 x1 x2 : Int} (HE : XE G X cX4_named 4 RX4 6 129 h0) (hr : XR X (some .int)) (f0 : Lay_X4 h0 x0) {Q : Int → Hp → Prop} {l3 : Int} {h : Hp} (hw : g_X4_named_b45 x0 x1 x2 Q l3 h) : Wx G X h0 (QI Q) h 45 [some (rV x0), some (iV x1), some (iV x2), some (iV l3)] [] := by
  refine Wx.start (fun EB => ?_)
  unfold g_X4_named_b45 at hw
  refine x_aload_n HE 0 dX4_named_45 rfl rfl ?_
  refine x_gI HE dX4_named_46 fd_X4_13 q1850 (Or.inl rfl) (Lay_X4.tag (f0.ext EB)) rfl ?_
  refine x_if_eq HE 56 dX4_named_49 (by decide) (fun c49 => ?_) (fun c49 => ?_)
  · have hw := hw.1 c49
    refine x_iload_n HE 3 dX4_named_56 rfl rfl ?_
    refine Wx.mask [true, true, true, false] (lo2 := [some (rV x0), some (iV x1), some (iV x2), none]) rfl ?_
    exact w_X4_named_57 HE hr f0 hw
  · have hw := hw.2 c49
    refine x_iload_n HE 1 dX4_named_52 rfl rfl ?_
    refine x_goto HE 57 dX4_named_53 (by decide) ?_
    refine Wx.mask [true, true, true, false] (lo2 := [some (rV x0), some (iV x1), some (iV x2), none]) rfl ?_
    exact w_X4_named_57 HE hr f0 hw
def g_X4_named (x0 x1 x2 : Int) (Q : Int → Hp → Prop) (h : Hp) : Prop :=
  (((hF h x0 13) = 0) → (g_X4_mustName x0 (fun m10 => Ext h m10 → ((((hF m10 x0 13) = 0) → (g_X4_find x0 (fun r23 m23 => Ext m10 m23 → (g_X4_within r23 x1 x2 (fun r30 m30 => Ext m23 m30 → (((r30 ≠ 0) → (g_X4_named_b45 x0 x1 x2 Q r23 m30)) ∧ ((r30 = 0) → (g_X4_wrong x0 2 (hF m30 x0 4) (fun m42 => Ext m30 m42 → (g_X4_named_b45 x0 x1 x2 Q r23 m42)) m30)))) m23)) m10)) ∧ (((hF m10 x0 13) ≠ 0) → (Q x1 m10)))) h)) ∧ (((hF h x0 13) ≠ 0) → (Q x1 h))
theorem w_X4_named_0 {G : GT} {X : ET} {h0 : Hp} {x0 x1 x2 : Int} (HE : XE G X cX4_named 4 RX4 6 129 h0) (hr : XR X (some .int)) (f0 : Lay_X4 h0 x0) {Q : Int → Hp → Prop} {h : Hp} (hw : g_X4_named x0 x1 x2 Q h) : Wx G X h0 (QI Q) h 0 [some (rV x0), some (iV x1), some (iV x2), none] [] := by
  refine Wx.start (fun EB => ?_)
  unfold g_X4_named at hw
  refine x_aload_n HE 0 dX4_named_0 rfl rfl ?_
  refine x_gI HE dX4_named_1 fd_X4_13 q1850 (Or.inl rfl) (Lay_X4.tag (f0.ext EB)) rfl ?_
  refine x_if_eq HE 9 dX4_named_4 (by decide) (fun c4 => ?_) (fun c4 => ?_)
  · have hw := hw.1 c4
    refine x_aload_n HE 0 dX4_named_9 rfl rfl ?_
    refine x_callV HE dX4_named_10 rfl (fun l => k_X4_mustName (f0.ext EB) l hw) (As := []) (rest := []) rfl xc10 (Lay_X4.tag (f0.ext EB)) (lw_V q2047 q2049 qs70 q129 q2050) hy_X4_mustName rfl rfl (Nat.le_of_ble_eq_true rfl) (Nat.le_of_ble_eq_true rfl) (Nat.le_of_ble_eq_true rfl) (kkV (fun m10 E10 hw => ?_))
    have hw := hw E10
    refine x_aload_n HE 0 dX4_named_13 rfl rfl ?_
    refine x_gI HE dX4_named_14 fd_X4_13 q1850 (Or.inl rfl) (Lay_X4.tag (f0.ext (EB.tr E10))) rfl ?_
    refine x_if_eq HE 22 dX4_named_17 (by decide) (fun c17 => ?_) (fun c17 => ?_)
    · have hw := hw.1 c17
      refine x_aload_n HE 0 dX4_named_22 rfl rfl ?_
      refine x_callV HE dX4_named_23 rfl (fun l => k_X4_find (f0.ext (EB.tr E10)) l hw) (As := []) (rest := []) rfl xc10 (Lay_X4.tag (f0.ext (EB.tr E10))) (lw_V q2055 q2057 qs71 q129 q2058) hy_X4_find rfl rfl (Nat.le_of_ble_eq_true rfl) (Nat.le_of_ble_eq_true rfl) (Nat.le_of_ble_eq_true rfl) (kkI (fun r23 m23 E23 hw => ?_))
      have hw := hw E23
      refine x_istore_n HE 3 (lo' := [some (rV x0), some (iV x1), some (iV x2), some (iV r23)]) dX4_named_26 rfl (Nat.le_of_ble_eq_true rfl) rfl ?_
      refine x_iload_n HE 3 dX4_named_27 rfl rfl ?_
      refine x_iload_n HE 1 dX4_named_28 rfl rfl ?_
      refine x_iload_n HE 2 dX4_named_29 rfl rfl ?_
      refine x_callS HE dX4_named_30 rfl (fun l => k_X4_within  l hw) (As := [iV r23, iV x1, iV x2]) (rest := []) rfl (lw_S q1959 q1960 q129 q1961) hy_X4_within.2 rfl rfl (Nat.le_of_ble_eq_true rfl) (Nat.le_of_ble_eq_true rfl) (Nat.le_of_ble_eq_true rfl) (kkI (fun r30 m30 E30 hw => ?_))
      have hw := hw E30
      refine x_if_ne HE 45 dX4_named_33 (by decide) (fun c33 => ?_) (fun c33 => ?_)
      · have hw := hw.1 c33
        exact w_X4_named_45 HE hr f0 hw
      · have hw := hw.2 c33
        refine x_aload_n HE 0 dX4_named_36 rfl rfl ?_
        refine x_iconst HE dX4_named_37 (by decide) ?_
        refine x_aload_n HE 0 dX4_named_38 rfl rfl ?_
        refine x_gI HE dX4_named_39 fd_X4_4 q1841 (Or.inl rfl) (Lay_X4.tag (f0.ext (EB.tr (E10.tr (E23.tr E30))))) rfl ?_
        refine x_callV HE dX4_named_42 rfl (fun l => k_X4_wrong (f0.ext (EB.tr (E10.tr (E23.tr E30)))) l hw) (As := [iV 2, iV (hF m30 x0 4)]) (rest := []) rfl xc10 (Lay_X4.tag (f0.ext (EB.tr (E10.tr (E23.tr E30))))) (lw_V q2012 q2014 qs62 q129 q2015) hy_X4_wrong rfl rfl (Nat.le_of_ble_eq_true rfl) (Nat.le_of_ble_eq_true rfl) (Nat.le_of_ble_eq_true rfl) (kkV (fun m42 E42 hw => ?_))
        have hw := hw E42
        exact w_X4_named_45 HE hr f0 hw
    · have hw := hw.2 c17
      refine x_iload_n HE 1 dX4_named_20 rfl rfl ?_
      exact x_iret HE hr dX4_named_21 hw
  · have hw := hw.2 c4
    refine x_iload_n HE 1 dX4_named_7 rfl rfl ?_
    exact x_iret HE hr dX4_named_8 hw
theorem k_X4_named {G : GT} {x0 x1 x2 : Int} {Q : Int → Hp → Prop} {h : Hp} (f0 : Lay_X4 h x0) (l : Launch) (hw : g_X4_named x0 x1 x2 Q h) : XM G l yX4_named cX4_named 4 (some .int) 6 129 [rV x0, iV x1, iV x2] (QI Q) h :=
  XM.of (by decide) (Nat.le_of_ble_eq_true rfl) (fun X HE hr hn => w_X4_named_0 HE hr f0 hw)
def g_X4_comma_b16 (x0 : Int) (Q : Int → Hp → Prop) (h : Hp) : Prop :=
  Q 0 h
theorem w_X4_comma_16 {G : GT} {X : ET} {h0 : Hp} {x0 : Int} (HE : XE G X cX4_comma 1 RX4 2 44 h0) (hr : XR X (some .boolean)) (f0 : Lay_X4 h0 x0) {Q : Int → Hp → Prop} {h : Hp} (hw : g_X4_comma_b16 x0 Q  h) : Wx G X h0 (QI Q) h 16 [some (rV x0)] [] := by
  refine Wx.start (fun EB => ?_)
  unfold g_X4_comma_b16 at hw
  refine x_iconst HE dX4_comma_16 (by decide) ?_
  exact x_zret HE hr dX4_comma_17 (by decide) hw
def g_X4_comma (x0 : Int) (Q : Int → Hp → Prop) (h : Hp) : Prop :=
  (((hF h x0 13) ≠ 0) → (g_X4_comma_b16 x0 Q h)) ∧ (((hF h x0 13) = 0) → ((((hF h x0 6) = 44) → (g_X4_nextToken x0 (fun m19 => Ext h m19 → (Q 1 m19)) h)) ∧ (((hF h x0 6) ≠ 44) → (g_X4_comma_b16 x0 Q h))))
theorem w_X4_comma_0 {G : GT} {X : ET} {h0 : Hp} {x0 : Int} (HE : XE G X cX4_comma 1 RX4 2 44 h0) (hr : XR X (some .boolean)) (f0 : Lay_X4 h0 x0) {Q : Int → Hp → Prop} {h : Hp} (hw : g_X4_comma x0 Q h) : Wx G X h0 (QI Q) h 0 [some (rV x0)] [] := by
  refine Wx.start (fun EB => ?_)
  unfold g_X4_comma at hw
  refine x_aload_n HE 0 dX4_comma_0 rfl rfl ?_
  refine x_gI HE dX4_comma_1 fd_X4_13 q1850 (Or.inl rfl) (Lay_X4.tag (f0.ext EB)) rfl ?_
  refine x_if_ne HE 16 dX4_comma_4 (by decide) (fun c4 => ?_) (fun c4 => ?_)
  · have hw := hw.1 c4
    exact w_X4_comma_16 HE hr f0 hw
  · have hw := hw.2 c4
    refine x_aload_n HE 0 dX4_comma_7 rfl rfl ?_
    refine x_gI HE dX4_comma_8 fd_X4_6 q1843 (Or.inl rfl) (Lay_X4.tag (f0.ext EB)) rfl ?_
    refine x_bipush HE dX4_comma_11 (by decide) ?_
    refine x_ic_eq HE 18 dX4_comma_13 (by decide) (fun c13 => ?_) (fun c13 => ?_)
    · have hw := hw.1 c13
      refine x_aload_n HE 0 dX4_comma_18 rfl rfl ?_
      refine x_callV HE dX4_comma_19 rfl (fun l => k_X4_nextToken (f0.ext EB) l hw) (As := []) (rest := []) rfl xc10 (Lay_X4.tag (f0.ext EB)) (lw_V q1966 q1968 qs57 q129 q1969) hy_X4_nextToken rfl rfl (Nat.le_of_ble_eq_true rfl) (Nat.le_of_ble_eq_true rfl) (Nat.le_of_ble_eq_true rfl) (kkV (fun m19 E19 hw => ?_))
      have hw := hw E19
      refine x_iconst HE dX4_comma_22 (by decide) ?_
      exact x_zret HE hr dX4_comma_23 (by decide) hw
    · have hw := hw.2 c13
      exact w_X4_comma_16 HE hr f0 hw
theorem k_X4_comma {G : GT} {x0 : Int} {Q : Int → Hp → Prop} {h : Hp} (f0 : Lay_X4 h x0) (l : Launch) (hw : g_X4_comma x0 Q h) : XM G l yX4_comma cX4_comma 1 (some .boolean) 2 44 [rV x0] (QI Q) h :=
  XM.of (by decide) (Nat.le_of_ble_eq_true rfl) (fun X HE hr hn => w_X4_comma_0 HE hr f0 hw)
def g_X4_personLine_b425 (x0 : Int) (Q : Hp → Prop) (h : Hp) : Prop :=
  Q h
theorem w_X4_personLine_425 {G : GT} {X : ET} {h0 : Hp} {x0 : Int} (HE : XE G X cX4_personLine 7 RX4 8 173 h0) (hr : XR X none) (f0 : Lay_X4 h0 x0) {Q : Hp → Prop} {h : Hp} (hw : g_X4_personLine_b425 x0 Q  h) : Wx G X h0 (QV Q) h 425 [some (rV x0), none, none, none, none, none, none] [] := by
  refine Wx.start (fun EB => ?_)
  unfold g_X4_personLine_b425 at hw
  exact x_vret HE hr dX4_personLine_425 hw
def g_X4_personLine_b408 (x0 : Int) (Q : Hp → Prop) (h : Hp) : Prop :=
  (((hF h x0 13) ≠ 0) → (g_X4_personLine_b425 x0 Q h)) ∧ (((hF h x0 13) = 0) → ((i32 ((hA h (x0 + 4) 5) + 1)) ∧ (∀ m424 : Hp, m424 = setA h (x0 + 4) 5 ((hA h (x0 + 4) 5) + 1) → (g_X4_personLine_b425 x0 Q m424))))
theorem w_X4_personLine_408 {G : GT} {X : ET} {h0 : Hp} {x0 : Int} (HE : XE G X cX4_personLine 7 RX4 8 173 h0) (hr : XR X none) (f0 : Lay_X4 h0 x0) {Q : Hp → Prop} {h : Hp} (hw : g_X4_personLine_b408 x0 Q  h) : Wx G X h0 (QV Q) h 408 [some (rV x0), none, none, none, none, none, none] [] := by
  refine Wx.start (fun EB => ?_)
  unfold g_X4_personLine_b408 at hw
  refine x_aload_n HE 0 dX4_personLine_408 rfl rfl ?_
  refine x_gI HE dX4_personLine_409 fd_X4_13 q1850 (Or.inl rfl) (Lay_X4.tag (f0.ext EB)) rfl ?_
  refine x_if_ne HE 425 dX4_personLine_412 (by decide) (fun c412 => ?_) (fun c412 => ?_)
  · have hw := hw.1 c412
    exact w_X4_personLine_425 HE hr f0 hw
  · have hw := hw.2 c412
    refine x_aload_n HE 0 dX4_personLine_415 rfl rfl ?_
    refine x_gR HE dX4_personLine_416 fd_X4_16 q1853 (Or.inl rfl) (Lay_X4.tag (f0.ext EB)) (Lay_X4_16 (f0.ext EB)).1 ?_
    refine x_iconst HE dX4_personLine_419 (by decide) ?_
    refine x_dup2 HE dX4_personLine_420 (fun o => o) (fun o => o) ?_
    refine x_iald HE dX4_personLine_421 (t := 1) (by decide) ((Lay_X4_16 (f0.ext EB)).2.1) (ix_of ((Lay_X4_16 (f0.ext EB)).2.2) (by decide)) rfl ?_
    refine x_iconst HE dX4_personLine_422 (by decide) ?_
    obtain ⟨v423, hw⟩ := hw
    refine x_iadd HE dX4_personLine_423 v423 ?_
    refine x_iast HE dX4_personLine_424 ((Lay_X4_16 (f0.ext EB)).2.1) (ix_of ((Lay_X4_16 (f0.ext EB)).2.2) (by decide)) (fun m424 em424 E424 => ?_)
    have hw := hw m424 em424
    exact w_X4_personLine_425 HE hr f0 hw
def g_X4_personLine_b370 (x0 : Int) (Q : Hp → Prop) (h : Hp) : Prop :=
  Q h
theorem w_X4_personLine_370 {G : GT} {X : ET} {h0 : Hp} {x0 : Int} (HE : XE G X cX4_personLine 7 RX4 8 173 h0) (hr : XR X none) (f0 : Lay_X4 h0 x0) {Q : Hp → Prop} {h : Hp} (hw : g_X4_personLine_b370 x0 Q  h) : Wx G X h0 (QV Q) h 370 [some (rV x0), none, none, none, none, none, none] [] := by
  refine Wx.start (fun EB => ?_)
  unfold g_X4_personLine_b370 at hw
  exact x_vret HE hr dX4_personLine_370 hw
def g_X4_personLine_b363 (x0 : Int) (Q : Hp → Prop) (K295 : Int → Int → Int → Hp → Prop) (l1 l4 l6 : Int) (h : Hp) : Prop :=
  (((hF h x0 13) = 0) → (g_X4_nextToken x0 (fun m372 => Ext h m372 → ((i32 (5 * l1)) ∧ ((i32 (111 + (5 * l1))) ∧ ((i32 ((111 + (5 * l1)) + l6)) ∧ (g_X4_number x0 1 9 (fun r392 m392 => Ext m372 m392 → (((0 : Int) ≤ ((111 + (5 * l1)) + l6) ∧ ((111 + (5 * l1)) + l6) < 347) ∧ (∀ m395 : Hp, m395 = setA m392 (x0 + 4) ((111 + (5 * l1)) + l6) r392 → ((i32 (l4 + 1)) ∧ (∀ y396 : Int, y396 = l4 + 1 → (g_X4_comma x0 (fun r400 m400 => Ext m395 m400 → (K295 l1 y396 r400 m400)) m395)))))) m372))))) h)) ∧ (((hF h x0 13) ≠ 0) → (g_X4_personLine_b370 x0 Q h))
theorem w_X4_personLine_363 {G : GT} {X : ET} {h0 : Hp} {x0 : Int} (HE : XE G X cX4_personLine 7 RX4 8 173 h0) (hr : XR X none) (f0 : Lay_X4 h0 x0) {Q : Hp → Prop} {K295 : Int → Int → Int → Hp → Prop} (hK295 : ∀ (l1 l4 l5 : Int) (h : Hp), K295 l1 l4 l5 h → Wx G X h0 (QV Q) h 295 [some (rV x0), some (iV l1), none, none, some (iV l4), some (iV l5), none] []) {l1 l4 l6 : Int} {h : Hp} (hw : g_X4_personLine_b363 x0 Q K295 l1 l4 l6 h) : Wx G X h0 (QV Q) h 363 [some (rV x0), some (iV l1), none, none, some (iV l4), none, some (iV l6)] [] := by
  refine Wx.start (fun EB => ?_)
  unfold g_X4_personLine_b363 at hw
  refine x_aload_n HE 0 dX4_personLine_363 rfl rfl ?_
  refine x_gI HE dX4_personLine_364 fd_X4_13 q1850 (Or.inl rfl) (Lay_X4.tag (f0.ext EB)) rfl ?_
  refine x_if_eq HE 371 dX4_personLine_367 (by decide) (fun c367 => ?_) (fun c367 => ?_)
  · have hw := hw.1 c367
    refine x_aload_n HE 0 dX4_personLine_371 rfl rfl ?_
    refine x_callV HE dX4_personLine_372 rfl (fun l => k_X4_nextToken (f0.ext EB) l hw) (As := []) (rest := []) rfl xc10 (Lay_X4.tag (f0.ext EB)) (lw_V q1966 q1968 qs57 q129 q1969) hy_X4_nextToken rfl rfl (Nat.le_of_ble_eq_true rfl) (Nat.le_of_ble_eq_true rfl) (Nat.le_of_ble_eq_true rfl) (kkV (fun m372 E372 hw => ?_))
    have hw := hw E372
    refine x_aload_n HE 0 dX4_personLine_375 rfl rfl ?_
    refine x_gR HE dX4_personLine_376 fd_X4_16 q1853 (Or.inl rfl) (Lay_X4.tag (f0.ext (EB.tr E372))) (Lay_X4_16 (f0.ext (EB.tr E372))).1 ?_
    refine x_bipush HE dX4_personLine_379 (by decide) ?_
    refine x_iconst HE dX4_personLine_381 (by decide) ?_
    refine x_iload_n HE 1 dX4_personLine_382 rfl rfl ?_
    obtain ⟨v383, hw⟩ := hw
    refine x_imul HE dX4_personLine_383 v383 ?_
    obtain ⟨v384, hw⟩ := hw
    refine x_iadd HE dX4_personLine_384 v384 ?_
    refine x_iload HE dX4_personLine_385 rfl ?_
    obtain ⟨v387, hw⟩ := hw
    refine x_iadd HE dX4_personLine_387 v387 ?_
    refine x_aload_n HE 0 dX4_personLine_388 rfl rfl ?_
    refine x_iconst HE dX4_personLine_389 (by decide) ?_
    refine x_bipush HE dX4_personLine_390 (by decide) ?_
    refine x_callV HE dX4_personLine_392 rfl (fun l => k_X4_number (f0.ext (EB.tr E372)) l hw) (As := [iV 1, iV 9]) (rest := [iV ((111 + (5 * l1)) + l6), rV (x0 + 4)]) rfl xc10 (Lay_X4.tag (f0.ext (EB.tr E372))) (lw_V q2029 q2031 qs66 q129 q2032) hy_X4_number rfl rfl (Nat.le_of_ble_eq_true rfl) (Nat.le_of_ble_eq_true rfl) (Nat.le_of_ble_eq_true rfl) (kkI (fun r392 m392 E392 hw => ?_))
    have hw := hw E392
    obtain ⟨i395, hw⟩ := hw
    refine x_iast HE dX4_personLine_395 ((Lay_X4_16 (f0.ext (EB.tr (E372.tr E392)))).2.1) (ix_of ((Lay_X4_16 (f0.ext (EB.tr (E372.tr E392)))).2.2) i395) (fun m395 em395 E395 => ?_)
    have hw := hw m395 em395
    obtain ⟨v396, hw⟩ := hw
    refine x_iincN HE (fun y396 => [some (rV x0), some (iV l1), none, none, some (iV y396), none, some (iV l6)]) dX4_personLine_396 rfl v396 (Nat.le_of_ble_eq_true rfl) (fun _ => rfl) (fun y396 ey396 => ?_)
    have hw := hw y396 ey396
    refine x_aload_n HE 0 dX4_personLine_399 rfl rfl ?_
    refine x_callV HE dX4_personLine_400 rfl (fun l => k_X4_comma (f0.ext (EB.tr (E372.tr (E392.tr E395)))) l hw) (As := []) (rest := []) rfl xc10 (Lay_X4.tag (f0.ext (EB.tr (E372.tr (E392.tr E395))))) (lw_V q2091 q2093 qs75 q129 q2094) hy_X4_comma rfl rfl (Nat.le_of_ble_eq_true rfl) (Nat.le_of_ble_eq_true rfl) (Nat.le_of_ble_eq_true rfl) (kkI (fun r400 m400 E400 hw => ?_))
    have hw := hw E400
    refine x_istore HE (lo' := [some (rV x0), some (iV l1), none, none, some (iV y396), some (iV r400), some (iV l6)]) dX4_personLine_403 (Nat.le_of_ble_eq_true rfl) rfl ?_
    refine x_goto HE 295 dX4_personLine_405 (by decide) ?_
    refine Wx.mask [true, true, true, true, true, true, false] (lo2 := [some (rV x0), some (iV l1), none, none, some (iV y396), some (iV r400), none]) rfl ?_
    exact hK295 _ _ _ _ hw
  · have hw := hw.2 c367
    refine Wx.mask [true, false, true, true, false, true, false] (lo2 := [some (rV x0), none, none, none, none, none, none]) rfl ?_
    exact w_X4_personLine_370 HE hr f0 hw
def g_X4_personLine_b341 (x0 : Int) (Q : Hp → Prop) (K295 : Int → Int → Int → Hp → Prop) (l1 l4 l6 : Int) (h : Hp) : Prop :=
  (((hF h x0 13) ≠ 0) → (g_X4_personLine_b363 x0 Q K295 l1 l4 l6 h)) ∧ (((hF h x0 13) = 0) → (((l4 ≠ 3) → (g_X4_personLine_b363 x0 Q K295 l1 l4 l6 h)) ∧ ((l4 = 3) → (g_X4_wrong x0 5 (hF h x0 4) (fun m360 => Ext h m360 → (g_X4_personLine_b363 x0 Q K295 l1 l4 l6 m360)) h))))
theorem w_X4_personLine_341 {G : GT} {X : ET} {h0 : Hp} {x0 : Int} (HE : XE G X cX4_personLine 7 RX4 8 173 h0) (hr : XR X none) (f0 : Lay_X4 h0 x0) {Q : Hp → Prop} {K295 : Int → Int → Int → Hp → Prop} (hK295 : ∀ (l1 l4 l5 : Int) (h : Hp), K295 l1 l4 l5 h → Wx G X h0 (QV Q) h 295 [some (rV x0), some (iV l1), none, none, some (iV l4), some (iV l5), none] []) {l1 l4 l6 : Int} {h : Hp} (hw : g_X4_personLine_b341 x0 Q K295 l1 l4 l6 h) : Wx G X h0 (QV Q) h 341 [some (rV x0), some (iV l1), none, none, some (iV l4), none, some (iV l6)] [] := by
  refine Wx.start (fun EB => ?_)
  unfold g_X4_personLine_b341 at hw
  refine x_aload_n HE 0 dX4_personLine_341 rfl rfl ?_
  refine x_gI HE dX4_personLine_342 fd_X4_13 q1850 (Or.inl rfl) (Lay_X4.tag (f0.ext EB)) rfl ?_
  refine x_if_ne HE 363 dX4_personLine_345 (by decide) (fun c345 => ?_) (fun c345 => ?_)
  · have hw := hw.1 c345
    exact w_X4_personLine_363 HE hr f0 hK295 hw
  · have hw := hw.2 c345
    refine x_iload HE dX4_personLine_348 rfl ?_
    refine x_iconst HE dX4_personLine_350 (by decide) ?_
    refine x_ic_ne HE 363 dX4_personLine_351 (by decide) (fun c351 => ?_) (fun c351 => ?_)
    · have hw := hw.1 c351
      exact w_X4_personLine_363 HE hr f0 hK295 hw
    · have hw := hw.2 c351
      refine x_aload_n HE 0 dX4_personLine_354 rfl rfl ?_
      refine x_iconst HE dX4_personLine_355 (by decide) ?_
      refine x_aload_n HE 0 dX4_personLine_356 rfl rfl ?_
      refine x_gI HE dX4_personLine_357 fd_X4_4 q1841 (Or.inl rfl) (Lay_X4.tag (f0.ext EB)) rfl ?_
      refine x_callV HE dX4_personLine_360 rfl (fun l => k_X4_wrong (f0.ext EB) l hw) (As := [iV 5, iV (hF h x0 4)]) (rest := []) rfl xc10 (Lay_X4.tag (f0.ext EB)) (lw_V q2012 q2014 qs62 q129 q2015) hy_X4_wrong rfl rfl (Nat.le_of_ble_eq_true rfl) (Nat.le_of_ble_eq_true rfl) (Nat.le_of_ble_eq_true rfl) (kkV (fun m360 E360 hw => ?_))
      have hw := hw E360
      exact w_X4_personLine_363 HE hr f0 hK295 hw
def g_X4_personLine_L295 (x0 : Int) (Q : Hp → Prop) (K295 : Int → Int → Int → Hp → Prop) (l1 l4 l5 : Int) (h : Hp) : Prop :=
  ((l5 = 0) → (g_X4_personLine_b408 x0 Q h)) ∧ ((l5 ≠ 0) → (g_X4_named x0 0 4 (fun r303 m303 => Ext h m303 → ((((hF m303 x0 13) ≠ 0) → (g_X4_personLine_b341 x0 Q K295 l1 l4 r303 m303)) ∧ (((hF m303 x0 13) = 0) → ((i32 (5 * l1)) ∧ ((i32 (111 + (5 * l1))) ∧ ((i32 ((111 + (5 * l1)) + r303)) ∧ (((0 : Int) ≤ ((111 + (5 * l1)) + r303) ∧ ((111 + (5 * l1)) + r303) < 347) ∧ ((((hA m303 (x0 + 4) ((111 + (5 * l1)) + r303)) ≤ 0) → (g_X4_personLine_b341 x0 Q K295 l1 l4 r303 m303)) ∧ ((0 < (hA m303 (x0 + 4) ((111 + (5 * l1)) + r303))) → (g_X4_wrong x0 3 (hF m303 x0 4) (fun m338 => Ext m303 m338 → (g_X4_personLine_b341 x0 Q K295 l1 l4 r303 m338)) m303)))))))))) h))
theorem w_X4_personLine_295 {G : GT} {X : ET} {h0 : Hp} {x0 : Int} (HE : XE G X cX4_personLine 7 RX4 8 173 h0) (hr : XR X none) (f0 : Lay_X4 h0 x0) {Q : Hp → Prop} {K295 : Int → Int → Int → Hp → Prop} (hK295 : ∀ (l1 l4 l5 : Int) (h : Hp), K295 l1 l4 l5 h → Wx G X h0 (QV Q) h 295 [some (rV x0), some (iV l1), none, none, some (iV l4), some (iV l5), none] []) {l1 l4 l5 : Int} {h : Hp} (hw : g_X4_personLine_L295 x0 Q K295 l1 l4 l5 h) : Wx G X h0 (QV Q) h 295 [some (rV x0), some (iV l1), none, none, some (iV l4), some (iV l5), none] [] := by
  refine Wx.start (fun EB => ?_)
  unfold g_X4_personLine_L295 at hw
  refine x_iload HE dX4_personLine_295 rfl ?_
  refine x_if_eq HE 408 dX4_personLine_297 (by decide) (fun c297 => ?_) (fun c297 => ?_)
  · have hw := hw.1 c297
    refine Wx.mask [true, false, true, true, false, false, true] (lo2 := [some (rV x0), none, none, none, none, none, none]) rfl ?_
    exact w_X4_personLine_408 HE hr f0 hw
  · have hw := hw.2 c297
    refine x_aload_n HE 0 dX4_personLine_300 rfl rfl ?_
    refine x_iconst HE dX4_personLine_301 (by decide) ?_
    refine x_iconst HE dX4_personLine_302 (by decide) ?_
    refine x_callV HE dX4_personLine_303 rfl (fun l => k_X4_named (f0.ext EB) l hw) (As := [iV 0, iV 4]) (rest := []) rfl xc10 (Lay_X4.tag (f0.ext EB)) (lw_V q2087 q2089 qs74 q129 q2090) hy_X4_named rfl rfl (Nat.le_of_ble_eq_true rfl) (Nat.le_of_ble_eq_true rfl) (Nat.le_of_ble_eq_true rfl) (kkI (fun r303 m303 E303 hw => ?_))
    have hw := hw E303
    refine x_istore HE (lo' := [some (rV x0), some (iV l1), none, none, some (iV l4), some (iV l5), some (iV r303)]) dX4_personLine_306 (Nat.le_of_ble_eq_true rfl) rfl ?_
    refine x_aload_n HE 0 dX4_personLine_308 rfl rfl ?_
    refine x_gI HE dX4_personLine_309 fd_X4_13 q1850 (Or.inl rfl) (Lay_X4.tag (f0.ext (EB.tr E303))) rfl ?_
    refine x_if_ne HE 341 dX4_personLine_312 (by decide) (fun c312 => ?_) (fun c312 => ?_)
    · have hw := hw.1 c312
      refine Wx.mask [true, true, true, true, true, false, true] (lo2 := [some (rV x0), some (iV l1), none, none, some (iV l4), none, some (iV r303)]) rfl ?_
      exact w_X4_personLine_341 HE hr f0 hK295 hw
    · have hw := hw.2 c312
      refine x_aload_n HE 0 dX4_personLine_315 rfl rfl ?_
      refine x_gR HE dX4_personLine_316 fd_X4_16 q1853 (Or.inl rfl) (Lay_X4.tag (f0.ext (EB.tr E303))) (Lay_X4_16 (f0.ext (EB.tr E303))).1 ?_
      refine x_bipush HE dX4_personLine_319 (by decide) ?_
      refine x_iconst HE dX4_personLine_321 (by decide) ?_
      refine x_iload_n HE 1 dX4_personLine_322 rfl rfl ?_
      obtain ⟨v323, hw⟩ := hw
      refine x_imul HE dX4_personLine_323 v323 ?_
      obtain ⟨v324, hw⟩ := hw
      refine x_iadd HE dX4_personLine_324 v324 ?_
      refine x_iload HE dX4_personLine_325 rfl ?_
      obtain ⟨v327, hw⟩ := hw
      refine x_iadd HE dX4_personLine_327 v327 ?_
      obtain ⟨i328, hw⟩ := hw
      refine x_iald HE dX4_personLine_328 (t := 1) (by decide) ((Lay_X4_16 (f0.ext (EB.tr E303))).2.1) (ix_of ((Lay_X4_16 (f0.ext (EB.tr E303))).2.2) i328) rfl ?_
      refine x_if_le HE 341 dX4_personLine_329 (by decide) (fun c329 => ?_) (fun c329 => ?_)
      · have hw := hw.1 c329
        refine Wx.mask [true, true, true, true, true, false, true] (lo2 := [some (rV x0), some (iV l1), none, none, some (iV l4), none, some (iV r303)]) rfl ?_
        exact w_X4_personLine_341 HE hr f0 hK295 hw
      · have hw := hw.2 c329
        refine x_aload_n HE 0 dX4_personLine_332 rfl rfl ?_
        refine x_iconst HE dX4_personLine_333 (by decide) ?_
        refine x_aload_n HE 0 dX4_personLine_334 rfl rfl ?_
        refine x_gI HE dX4_personLine_335 fd_X4_4 q1841 (Or.inl rfl) (Lay_X4.tag (f0.ext (EB.tr E303))) rfl ?_
        refine x_callV HE dX4_personLine_338 rfl (fun l => k_X4_wrong (f0.ext (EB.tr E303)) l hw) (As := [iV 3, iV (hF m303 x0 4)]) (rest := []) rfl xc10 (Lay_X4.tag (f0.ext (EB.tr E303))) (lw_V q2012 q2014 qs62 q129 q2015) hy_X4_wrong rfl rfl (Nat.le_of_ble_eq_true rfl) (Nat.le_of_ble_eq_true rfl) (Nat.le_of_ble_eq_true rfl) (kkV (fun m338 E338 hw => ?_))
        have hw := hw E338
        refine Wx.mask [true, true, true, true, true, false, true] (lo2 := [some (rV x0), some (iV l1), none, none, some (iV l4), none, some (iV r303)]) rfl ?_
        exact w_X4_personLine_341 HE hr f0 hK295 hw
theorem wl_X4_personLine_295 {G : GT} {X : ET} {h0 : Hp} {x0 : Int} (HE : XE G X cX4_personLine 7 RX4 8 173 h0) (hr : XR X none) (f0 : Lay_X4 h0 x0) {Q : Hp → Prop} {l1 l4 l5 : Int} {h : Hp} (hw : Lp3 (g_X4_personLine_L295 x0 Q) l1 l4 l5 h) : Wx G X h0 (QV Q) h 295 [some (rV x0), some (iV l1), none, none, some (iV l4), some (iV l5), none] [] := by
  obtain ⟨n, hw⟩ := hw
  induction n generalizing l1 l4 l5 h with
  | zero => exact hw.elim
  | succ n ih => exact w_X4_personLine_295 HE hr f0 (fun _ _ _ _ hk => ih hk) hw
def g_X4_personLine_b293 (x0 : Int) (Q : Hp → Prop) (l1 l4 s0 : Int) (h : Hp) : Prop :=
  Lp3 (g_X4_personLine_L295 x0 Q) l1 l4 s0 h
theorem w_X4_personLine_293 {G : GT} {X : ET} {h0 : Hp} {x0 : Int} (HE : XE G X cX4_personLine 7 RX4 8 173 h0) (hr : XR X none) (f0 : Lay_X4 h0 x0) {Q : Hp → Prop} {l1 l4 s0 : Int} {h : Hp} (hw : g_X4_personLine_b293 x0 Q l1 l4 s0 h) : Wx G X h0 (QV Q) h 293 [some (rV x0), some (iV l1), none, none, some (iV l4), none, none] [iV s0] := by
  refine Wx.start (fun EB => ?_)
  unfold g_X4_personLine_b293 at hw
  refine x_istore HE (lo' := [some (rV x0), some (iV l1), none, none, some (iV l4), some (iV s0), none]) dX4_personLine_293 (Nat.le_of_ble_eq_true rfl) rfl ?_
  exact wl_X4_personLine_295 HE hr f0 hw
def g_X4_personLine_b271 (x0 : Int) (Q : Hp → Prop) (l1 : Int) (h : Hp) : Prop :=
  g_X4_must x0 (hF h 0 29) (fun m275 => Ext h m275 → ((((hF m275 x0 13) ≠ 0) → (g_X4_personLine_b293 x0 Q l1 0 0 m275)) ∧ (((hF m275 x0 13) = 0) → (g_X4_personLine_b293 x0 Q l1 0 1 m275)))) h
theorem w_X4_personLine_271 {G : GT} {X : ET} {h0 : Hp} {x0 : Int} (HE : XE G X cX4_personLine 7 RX4 8 173 h0) (hr : XR X none) (f0 : Lay_X4 h0 x0) {Q : Hp → Prop} {l1 : Int} {h : Hp} (hw : g_X4_personLine_b271 x0 Q l1 h) : Wx G X h0 (QV Q) h 271 [some (rV x0), some (iV l1), none, none, none, none, none] [] := by
  refine Wx.start (fun EB => ?_)
  unfold g_X4_personLine_b271 at hw
  refine x_aload_n HE 0 dX4_personLine_271 rfl rfl ?_
  refine x_ldcwS (k := 28) HE dX4_personLine_272 (List.mem_of_getElem? (i := 66) rfl) (fun hp272 => ?_)
  refine x_callV HE dX4_personLine_275 rfl (fun l => k_X4_must (f0.ext EB) l hw) (As := [rV (hF h 0 29)]) (rest := []) rfl xc10 (Lay_X4.tag (f0.ext EB)) (lw_V q2021 q2023 qs64 q129 q2024) hy_X4_must rfl rfl (Nat.le_of_ble_eq_true rfl) (Nat.le_of_ble_eq_true rfl) (Nat.le_of_ble_eq_true rfl) (kkV (fun m275 E275 hw => ?_))
  have hw := hw E275
  refine x_iconst HE dX4_personLine_278 (by decide) ?_
  refine x_istore HE (lo' := [some (rV x0), some (iV l1), none, none, some (iV 0), none, none]) dX4_personLine_279 (Nat.le_of_ble_eq_true rfl) rfl ?_
  refine x_aload_n HE 0 dX4_personLine_281 rfl rfl ?_
  refine x_gI HE dX4_personLine_282 fd_X4_13 q1850 (Or.inl rfl) (Lay_X4.tag (f0.ext (EB.tr E275))) rfl ?_
  refine x_if_ne HE 292 dX4_personLine_285 (by decide) (fun c285 => ?_) (fun c285 => ?_)
  · have hw := hw.1 c285
    refine x_iconst HE dX4_personLine_292 (by decide) ?_
    exact w_X4_personLine_293 HE hr f0 hw
  · have hw := hw.2 c285
    refine x_iconst HE dX4_personLine_288 (by decide) ?_
    refine x_goto HE 293 dX4_personLine_289 (by decide) ?_
    exact w_X4_personLine_293 HE hr f0 hw
def g_X4_personLine_L244 (x0 : Int) (Q : Hp → Prop) (K244 : Int → Int → Hp → Prop) (l1 l4 : Int) (h : Hp) : Prop :=
  ((5 ≤ l4) → (g_X4_personLine_b271 x0 Q l1 h)) ∧ ((l4 < 5) → ((i32 (5 * l1)) ∧ ((i32 (111 + (5 * l1))) ∧ ((i32 ((111 + (5 * l1)) + l4)) ∧ (((0 : Int) ≤ ((111 + (5 * l1)) + l4) ∧ ((111 + (5 * l1)) + l4) < 347) ∧ (∀ m264 : Hp, m264 = setA h (x0 + 4) ((111 + (5 * l1)) + l4) 0 → ((i32 (l4 + 1)) ∧ (∀ y265 : Int, y265 = l4 + 1 → (K244 l1 y265 m264)))))))))
theorem w_X4_personLine_244 {G : GT} {X : ET} {h0 : Hp} {x0 : Int} (HE : XE G X cX4_personLine 7 RX4 8 173 h0) (hr : XR X none) (f0 : Lay_X4 h0 x0) {Q : Hp → Prop} {K244 : Int → Int → Hp → Prop} (hK244 : ∀ (l1 l4 : Int) (h : Hp), K244 l1 l4 h → Wx G X h0 (QV Q) h 244 [some (rV x0), some (iV l1), none, none, some (iV l4), none, none] []) {l1 l4 : Int} {h : Hp} (hw : g_X4_personLine_L244 x0 Q K244 l1 l4 h) : Wx G X h0 (QV Q) h 244 [some (rV x0), some (iV l1), none, none, some (iV l4), none, none] [] := by
  refine Wx.start (fun EB => ?_)
  unfold g_X4_personLine_L244 at hw
  refine x_iload HE dX4_personLine_244 rfl ?_
  refine x_iconst HE dX4_personLine_246 (by decide) ?_
  refine x_ic_ge HE 271 dX4_personLine_247 (by decide) (fun c247 => ?_) (fun c247 => ?_)
  · have hw := hw.1 c247
    refine Wx.mask [true, true, true, true, false, true, true] (lo2 := [some (rV x0), some (iV l1), none, none, none, none, none]) rfl ?_
    exact w_X4_personLine_271 HE hr f0 hw
  · have hw := hw.2 c247
    refine x_aload_n HE 0 dX4_personLine_250 rfl rfl ?_
    refine x_gR HE dX4_personLine_251 fd_X4_16 q1853 (Or.inl rfl) (Lay_X4.tag (f0.ext EB)) (Lay_X4_16 (f0.ext EB)).1 ?_
    refine x_bipush HE dX4_personLine_254 (by decide) ?_
    refine x_iconst HE dX4_personLine_256 (by decide) ?_
    refine x_iload_n HE 1 dX4_personLine_257 rfl rfl ?_
    obtain ⟨v258, hw⟩ := hw
    refine x_imul HE dX4_personLine_258 v258 ?_
    obtain ⟨v259, hw⟩ := hw
    refine x_iadd HE dX4_personLine_259 v259 ?_
    refine x_iload HE dX4_personLine_260 rfl ?_
    obtain ⟨v262, hw⟩ := hw
    refine x_iadd HE dX4_personLine_262 v262 ?_
    refine x_iconst HE dX4_personLine_263 (by decide) ?_
    obtain ⟨i264, hw⟩ := hw
    refine x_iast HE dX4_personLine_264 ((Lay_X4_16 (f0.ext EB)).2.1) (ix_of ((Lay_X4_16 (f0.ext EB)).2.2) i264) (fun m264 em264 E264 => ?_)
    have hw := hw m264 em264
    obtain ⟨v265, hw⟩ := hw
    refine x_iincN HE (fun y265 => [some (rV x0), some (iV l1), none, none, some (iV y265), none, none]) dX4_personLine_265 rfl v265 (Nat.le_of_ble_eq_true rfl) (fun _ => rfl) (fun y265 ey265 => ?_)
    have hw := hw y265 ey265
    refine x_goto HE 244 dX4_personLine_268 (by decide) ?_
    exact hK244 _ _ _ hw
theorem wl_X4_personLine_244 {G : GT} {X : ET} {h0 : Hp} {x0 : Int} (HE : XE G X cX4_personLine 7 RX4 8 173 h0) (hr : XR X none) (f0 : Lay_X4 h0 x0) {Q : Hp → Prop} {l1 l4 : Int} {h : Hp} (hw : Lp2 (g_X4_personLine_L244 x0 Q) l1 l4 h) : Wx G X h0 (QV Q) h 244 [some (rV x0), some (iV l1), none, none, some (iV l4), none, none] [] := by
  obtain ⟨n, hw⟩ := hw
  induction n generalizing l1 l4 h with
  | zero => exact hw.elim
  | succ n ih => exact w_X4_personLine_244 HE hr f0 (fun _ _ _ hk => ih hk) hw
def g_X4_personLine_b148 (x0 : Int) (Q : Hp → Prop) (l1 l2 s0 s1 s2 : Int) (h : Hp) : Prop :=
  (hT h s0 = 1) ∧ (((0 : Int) ≤ s1 ∧ s1 < hL h s0) ∧ (∀ m148 : Hp, m148 = setA h s0 s1 s2 → ((i32 (l2 + 2)) ∧ (g_X4_after x0 (hF m148 0 26) 0 (hA m148 (x0 + 4) 2) (fun r167 m167 => Ext m148 m167 → (((0 : Int) ≤ (l2 + 2) ∧ (l2 + 2) < 347) ∧ (∀ m170 : Hp, m170 = setA m167 (x0 + 4) (l2 + 2) r167 → ((i32 (l2 + 3)) ∧ ((i32 ((hA m170 (x0 + 4) 1) - 1)) ∧ (g_X4_after x0 (hF m170 0 18) 0 ((hA m170 (x0 + 4) 1) - 1) (fun r190 m190 => Ext m170 m190 → (((0 : Int) ≤ (l2 + 3) ∧ (l2 + 3) < 347) ∧ (∀ m193 : Hp, m193 = setA m190 (x0 + 4) (l2 + 3) r190 → ((i32 (l2 + 4)) ∧ (g_X4_after x0 (hF m193 0 27) 0 600 (fun r209 m209 => Ext m193 m209 → (((0 : Int) ≤ (l2 + 4) ∧ (l2 + 4) < 347) ∧ (∀ m212 : Hp, m212 = setA m209 (x0 + 4) (l2 + 4) r209 → ((i32 (l2 + 5)) ∧ (g_X4_after x0 (hF m212 0 28) 0 99 (fun r227 m227 => Ext m212 m227 → (((0 : Int) ≤ (l2 + 5) ∧ (l2 + 5) < 347) ∧ (∀ m230 : Hp, m230 = setA m227 (x0 + 4) (l2 + 5) r227 → ((i32 (l2 + 6)) ∧ (((0 : Int) ≤ (l2 + 6) ∧ (l2 + 6) < 347) ∧ (∀ m240 : Hp, m240 = setA m230 (x0 + 4) (l2 + 6) 0 → (Lp2 (g_X4_personLine_L244 x0 Q) l1 0 m240))))))) m212))))) m193))))) m170)))))) m148))))
theorem w_X4_personLine_148 {G : GT} {X : ET} {h0 : Hp} {x0 : Int} (HE : XE G X cX4_personLine 7 RX4 8 173 h0) (hr : XR X none) (f0 : Lay_X4 h0 x0) {Q : Hp → Prop} {l1 l2 s0 s1 s2 : Int} {h : Hp} (hw : g_X4_personLine_b148 x0 Q l1 l2 s0 s1 s2 h) : Wx G X h0 (QV Q) h 148 [some (rV x0), some (iV l1), some (iV l2), none, none, none, none] [iV s2, iV s1, rV s0] := by
  refine Wx.start (fun EB => ?_)
  unfold g_X4_personLine_b148 at hw
  obtain ⟨v148, hw⟩ := hw
  obtain ⟨i148, hw⟩ := hw
  refine x_iast HE dX4_personLine_148 v148 i148 (fun m148 em148 E148 => ?_)
  have hw := hw m148 em148
  refine x_aload_n HE 0 dX4_personLine_149 rfl rfl ?_
  refine x_gR HE dX4_personLine_150 fd_X4_16 q1853 (Or.inl rfl) (Lay_X4.tag (f0.ext (EB.tr E148))) (Lay_X4_16 (f0.ext (EB.tr E148))).1 ?_
  refine x_iload_n HE 2 dX4_personLine_153 rfl rfl ?_
  refine x_iconst HE dX4_personLine_154 (by decide) ?_
  obtain ⟨v155, hw⟩ := hw
  refine x_iadd HE dX4_personLine_155 v155 ?_
  refine x_aload_n HE 0 dX4_personLine_156 rfl rfl ?_
  refine x_ldcwS (k := 25) HE dX4_personLine_157 (List.mem_of_getElem? (i := 63) rfl) (fun hp157 => ?_)
  refine x_iconst HE dX4_personLine_160 (by decide) ?_
  refine x_aload_n HE 0 dX4_personLine_161 rfl rfl ?_
  refine x_gR HE dX4_personLine_162 fd_X4_16 q1853 (Or.inl rfl) (Lay_X4.tag (f0.ext (EB.tr E148))) (Lay_X4_16 (f0.ext (EB.tr E148))).1 ?_
  refine x_iconst HE dX4_personLine_165 (by decide) ?_
  refine x_iald HE dX4_personLine_166 (t := 1) (by decide) ((Lay_X4_16 (f0.ext (EB.tr E148))).2.1) (ix_of ((Lay_X4_16 (f0.ext (EB.tr E148))).2.2) (by decide)) rfl ?_
  refine x_callV HE dX4_personLine_167 rfl (fun l => k_X4_after (f0.ext (EB.tr E148)) l hw) (As := [rV (hF m148 0 26), iV 0, iV (hA m148 (x0 + 4) 2)]) (rest := [iV (l2 + 2), rV (x0 + 4)]) rfl xc10 (Lay_X4.tag (f0.ext (EB.tr E148))) (lw_V q2017 q2019 qs63 q129 q2020) hy_X4_after rfl rfl (Nat.le_of_ble_eq_true rfl) (Nat.le_of_ble_eq_true rfl) (Nat.le_of_ble_eq_true rfl) (kkI (fun r167 m167 E167 hw => ?_))
  have hw := hw E167
  obtain ⟨i170, hw⟩ := hw
  refine x_iast HE dX4_personLine_170 ((Lay_X4_16 (f0.ext (EB.tr (E148.tr E167)))).2.1) (ix_of ((Lay_X4_16 (f0.ext (EB.tr (E148.tr E167)))).2.2) i170) (fun m170 em170 E170 => ?_)
  have hw := hw m170 em170
  refine x_aload_n HE 0 dX4_personLine_171 rfl rfl ?_
  refine x_gR HE dX4_personLine_172 fd_X4_16 q1853 (Or.inl rfl) (Lay_X4.tag (f0.ext (EB.tr (E148.tr (E167.tr E170))))) (Lay_X4_16 (f0.ext (EB.tr (E148.tr (E167.tr E170))))).1 ?_
  refine x_iload_n HE 2 dX4_personLine_175 rfl rfl ?_
  refine x_iconst HE dX4_personLine_176 (by decide) ?_
  obtain ⟨v177, hw⟩ := hw
  refine x_iadd HE dX4_personLine_177 v177 ?_
  refine x_aload_n HE 0 dX4_personLine_178 rfl rfl ?_
  refine x_ldcS (k := 17) HE dX4_personLine_179 (List.mem_of_getElem? (i := 55) rfl) (fun hp179 => ?_)
  refine x_iconst HE dX4_personLine_181 (by decide) ?_
  refine x_aload_n HE 0 dX4_personLine_182 rfl rfl ?_
  refine x_gR HE dX4_personLine_183 fd_X4_16 q1853 (Or.inl rfl) (Lay_X4.tag (f0.ext (EB.tr (E148.tr (E167.tr E170))))) (Lay_X4_16 (f0.ext (EB.tr (E148.tr (E167.tr E170))))).1 ?_
  refine x_iconst HE dX4_personLine_186 (by decide) ?_
  refine x_iald HE dX4_personLine_187 (t := 1) (by decide) ((Lay_X4_16 (f0.ext (EB.tr (E148.tr (E167.tr E170))))).2.1) (ix_of ((Lay_X4_16 (f0.ext (EB.tr (E148.tr (E167.tr E170))))).2.2) (by decide)) rfl ?_
  refine x_iconst HE dX4_personLine_188 (by decide) ?_
  obtain ⟨v189, hw⟩ := hw
  refine x_isub HE dX4_personLine_189 v189 ?_
  refine x_callV HE dX4_personLine_190 rfl (fun l => k_X4_after (f0.ext (EB.tr (E148.tr (E167.tr E170)))) l hw) (As := [rV (hF m170 0 18), iV 0, iV ((hA m170 (x0 + 4) 1) - 1)]) (rest := [iV (l2 + 3), rV (x0 + 4)]) rfl xc10 (Lay_X4.tag (f0.ext (EB.tr (E148.tr (E167.tr E170))))) (lw_V q2017 q2019 qs63 q129 q2020) hy_X4_after rfl rfl (Nat.le_of_ble_eq_true rfl) (Nat.le_of_ble_eq_true rfl) (Nat.le_of_ble_eq_true rfl) (kkI (fun r190 m190 E190 hw => ?_))
  have hw := hw E190
  obtain ⟨i193, hw⟩ := hw
  refine x_iast HE dX4_personLine_193 ((Lay_X4_16 (f0.ext (EB.tr (E148.tr (E167.tr (E170.tr E190)))))).2.1) (ix_of ((Lay_X4_16 (f0.ext (EB.tr (E148.tr (E167.tr (E170.tr E190)))))).2.2) i193) (fun m193 em193 E193 => ?_)
  have hw := hw m193 em193
  refine x_aload_n HE 0 dX4_personLine_194 rfl rfl ?_
  refine x_gR HE dX4_personLine_195 fd_X4_16 q1853 (Or.inl rfl) (Lay_X4.tag (f0.ext (EB.tr (E148.tr (E167.tr (E170.tr (E190.tr E193))))))) (Lay_X4_16 (f0.ext (EB.tr (E148.tr (E167.tr (E170.tr (E190.tr E193))))))).1 ?_
  refine x_iload_n HE 2 dX4_personLine_198 rfl rfl ?_
  refine x_iconst HE dX4_personLine_199 (by decide) ?_
  obtain ⟨v200, hw⟩ := hw
  refine x_iadd HE dX4_personLine_200 v200 ?_
  refine x_aload_n HE 0 dX4_personLine_201 rfl rfl ?_
  refine x_ldcwS (k := 26) HE dX4_personLine_202 (List.mem_of_getElem? (i := 64) rfl) (fun hp202 => ?_)
  refine x_iconst HE dX4_personLine_205 (by decide) ?_
  refine x_sipush HE dX4_personLine_206 (by decide) ?_
  refine x_callV HE dX4_personLine_209 rfl (fun l => k_X4_after (f0.ext (EB.tr (E148.tr (E167.tr (E170.tr (E190.tr E193)))))) l hw) (As := [rV (hF m193 0 27), iV 0, iV 600]) (rest := [iV (l2 + 4), rV (x0 + 4)]) rfl xc10 (Lay_X4.tag (f0.ext (EB.tr (E148.tr (E167.tr (E170.tr (E190.tr E193))))))) (lw_V q2017 q2019 qs63 q129 q2020) hy_X4_after rfl rfl (Nat.le_of_ble_eq_true rfl) (Nat.le_of_ble_eq_true rfl) (Nat.le_of_ble_eq_true rfl) (kkI (fun r209 m209 E209 hw => ?_))
  have hw := hw E209
  obtain ⟨i212, hw⟩ := hw
  refine x_iast HE dX4_personLine_212 ((Lay_X4_16 (f0.ext (EB.tr (E148.tr (E167.tr (E170.tr (E190.tr (E193.tr E209)))))))).2.1) (ix_of ((Lay_X4_16 (f0.ext (EB.tr (E148.tr (E167.tr (E170.tr (E190.tr (E193.tr E209)))))))).2.2) i212) (fun m212 em212 E212 => ?_)
  have hw := hw m212 em212
  refine x_aload_n HE 0 dX4_personLine_213 rfl rfl ?_
  refine x_gR HE dX4_personLine_214 fd_X4_16 q1853 (Or.inl rfl) (Lay_X4.tag (f0.ext (EB.tr (E148.tr (E167.tr (E170.tr (E190.tr (E193.tr (E209.tr E212))))))))) (Lay_X4_16 (f0.ext (EB.tr (E148.tr (E167.tr (E170.tr (E190.tr (E193.tr (E209.tr E212))))))))).1 ?_
  refine x_iload_n HE 2 dX4_personLine_217 rfl rfl ?_
  refine x_iconst HE dX4_personLine_218 (by decide) ?_
  obtain ⟨v219, hw⟩ := hw
  refine x_iadd HE dX4_personLine_219 v219 ?_
  refine x_aload_n HE 0 dX4_personLine_220 rfl rfl ?_
  refine x_ldcwS (k := 27) HE dX4_personLine_221 (List.mem_of_getElem? (i := 65) rfl) (fun hp221 => ?_)
  refine x_iconst HE dX4_personLine_224 (by decide) ?_
  refine x_bipush HE dX4_personLine_225 (by decide) ?_
  refine x_callV HE dX4_personLine_227 rfl (fun l => k_X4_after (f0.ext (EB.tr (E148.tr (E167.tr (E170.tr (E190.tr (E193.tr (E209.tr E212)))))))) l hw) (As := [rV (hF m212 0 28), iV 0, iV 99]) (rest := [iV (l2 + 5), rV (x0 + 4)]) rfl xc10 (Lay_X4.tag (f0.ext (EB.tr (E148.tr (E167.tr (E170.tr (E190.tr (E193.tr (E209.tr E212))))))))) (lw_V q2017 q2019 qs63 q129 q2020) hy_X4_after rfl rfl (Nat.le_of_ble_eq_true rfl) (Nat.le_of_ble_eq_true rfl) (Nat.le_of_ble_eq_true rfl) (kkI (fun r227 m227 E227 hw => ?_))
  have hw := hw E227
  obtain ⟨i230, hw⟩ := hw
  refine x_iast HE dX4_personLine_230 ((Lay_X4_16 (f0.ext (EB.tr (E148.tr (E167.tr (E170.tr (E190.tr (E193.tr (E209.tr (E212.tr E227)))))))))).2.1) (ix_of ((Lay_X4_16 (f0.ext (EB.tr (E148.tr (E167.tr (E170.tr (E190.tr (E193.tr (E209.tr (E212.tr E227)))))))))).2.2) i230) (fun m230 em230 E230 => ?_)
  have hw := hw m230 em230
  refine x_aload_n HE 0 dX4_personLine_231 rfl rfl ?_
  refine x_gR HE dX4_personLine_232 fd_X4_16 q1853 (Or.inl rfl) (Lay_X4.tag (f0.ext (EB.tr (E148.tr (E167.tr (E170.tr (E190.tr (E193.tr (E209.tr (E212.tr (E227.tr E230))))))))))) (Lay_X4_16 (f0.ext (EB.tr (E148.tr (E167.tr (E170.tr (E190.tr (E193.tr (E209.tr (E212.tr (E227.tr E230))))))))))).1 ?_
  refine x_iload_n HE 2 dX4_personLine_235 rfl rfl ?_
  refine x_bipush HE dX4_personLine_236 (by decide) ?_
  obtain ⟨v238, hw⟩ := hw
  refine x_iadd HE dX4_personLine_238 v238 ?_
  refine x_iconst HE dX4_personLine_239 (by decide) ?_
  obtain ⟨i240, hw⟩ := hw
  refine x_iast HE dX4_personLine_240 ((Lay_X4_16 (f0.ext (EB.tr (E148.tr (E167.tr (E170.tr (E190.tr (E193.tr (E209.tr (E212.tr (E227.tr E230))))))))))).2.1) (ix_of ((Lay_X4_16 (f0.ext (EB.tr (E148.tr (E167.tr (E170.tr (E190.tr (E193.tr (E209.tr (E212.tr (E227.tr E230))))))))))).2.2) i240) (fun m240 em240 E240 => ?_)
  have hw := hw m240 em240
  refine x_iconst HE dX4_personLine_241 (by decide) ?_
  refine x_istore HE (lo' := [some (rV x0), some (iV l1), some (iV l2), none, some (iV 0), none, none]) dX4_personLine_242 (Nat.le_of_ble_eq_true rfl) rfl ?_
  refine Wx.mask [true, true, false, true, true, true, true] (lo2 := [some (rV x0), some (iV l1), none, none, some (iV 0), none, none]) rfl ?_
  exact wl_X4_personLine_244 HE hr f0 hw
def g_X4_personLine_b137 (x0 : Int) (Q : Hp → Prop) (l1 l2 s0 s1 : Int) (h : Hp) : Prop :=
  g_X4_number x0 1 99 (fun r141 m141 => Ext h m141 → (g_X4_personLine_b148 x0 Q l1 l2 s0 s1 r141 m141)) h
theorem w_X4_personLine_137 {G : GT} {X : ET} {h0 : Hp} {x0 : Int} (HE : XE G X cX4_personLine 7 RX4 8 173 h0) (hr : XR X none) (f0 : Lay_X4 h0 x0) {Q : Hp → Prop} {l1 l2 s0 s1 : Int} {h : Hp} (hw : g_X4_personLine_b137 x0 Q l1 l2 s0 s1 h) : Wx G X h0 (QV Q) h 137 [some (rV x0), some (iV l1), some (iV l2), none, none, none, none] [iV s1, rV s0] := by
  refine Wx.start (fun EB => ?_)
  unfold g_X4_personLine_b137 at hw
  refine x_aload_n HE 0 dX4_personLine_137 rfl rfl ?_
  refine x_iconst HE dX4_personLine_138 (by decide) ?_
  refine x_bipush HE dX4_personLine_139 (by decide) ?_
  refine x_callV HE dX4_personLine_141 rfl (fun l => k_X4_number (f0.ext EB) l hw) (As := [iV 1, iV 99]) (rest := [iV s1, rV s0]) rfl xc10 (Lay_X4.tag (f0.ext EB)) (lw_V q2029 q2031 qs66 q129 q2032) hy_X4_number rfl rfl (Nat.le_of_ble_eq_true rfl) (Nat.le_of_ble_eq_true rfl) (Nat.le_of_ble_eq_true rfl) (kkI (fun r141 m141 E141 hw => ?_))
  have hw := hw E141
  refine x_goto HE 148 dX4_personLine_144 (by decide) ?_
  exact w_X4_personLine_148 HE hr f0 hw
def g_X4_personLine_b99 (x0 : Int) (Q : Hp → Prop) (l1 l2 l3 : Int) (h : Hp) : Prop :=
  (((hF h x0 13) = 0) → (g_X4_nextToken x0 (fun m108 => Ext h m108 → ((i32 (l2 + 0)) ∧ (((0 : Int) ≤ (l2 + 0) ∧ (l2 + 0) < 347) ∧ (∀ m119 : Hp, m119 = setA m108 (x0 + 4) (l2 + 0) l3 → ((i32 (l2 + 1)) ∧ (((l3 = 1) → (g_X4_personLine_b137 x0 Q l1 l2 (x0 + 4) (l2 + 1) m119)) ∧ ((l3 ≠ 1) → (((l3 ≠ 2) → (g_X4_personLine_b148 x0 Q l1 l2 (x0 + 4) (l2 + 1) 0 m119)) ∧ ((l3 = 2) → (g_X4_personLine_b137 x0 Q l1 l2 (x0 + 4) (l2 + 1) m119)))))))))) h)) ∧ (((hF h x0 13) ≠ 0) → (Q h))
theorem w_X4_personLine_99 {G : GT} {X : ET} {h0 : Hp} {x0 : Int} (HE : XE G X cX4_personLine 7 RX4 8 173 h0) (hr : XR X none) (f0 : Lay_X4 h0 x0) {Q : Hp → Prop} {l1 l2 l3 : Int} {h : Hp} (hw : g_X4_personLine_b99 x0 Q l1 l2 l3 h) : Wx G X h0 (QV Q) h 99 [some (rV x0), some (iV l1), some (iV l2), some (iV l3), none, none, none] [] := by
  refine Wx.start (fun EB => ?_)
  unfold g_X4_personLine_b99 at hw
  refine x_aload_n HE 0 dX4_personLine_99 rfl rfl ?_
  refine x_gI HE dX4_personLine_100 fd_X4_13 q1850 (Or.inl rfl) (Lay_X4.tag (f0.ext EB)) rfl ?_
  refine x_if_eq HE 107 dX4_personLine_103 (by decide) (fun c103 => ?_) (fun c103 => ?_)
  · have hw := hw.1 c103
    refine x_aload_n HE 0 dX4_personLine_107 rfl rfl ?_
    refine x_callV HE dX4_personLine_108 rfl (fun l => k_X4_nextToken (f0.ext EB) l hw) (As := []) (rest := []) rfl xc10 (Lay_X4.tag (f0.ext EB)) (lw_V q1966 q1968 qs57 q129 q1969) hy_X4_nextToken rfl rfl (Nat.le_of_ble_eq_true rfl) (Nat.le_of_ble_eq_true rfl) (Nat.le_of_ble_eq_true rfl) (kkV (fun m108 E108 hw => ?_))
    have hw := hw E108
    refine x_aload_n HE 0 dX4_personLine_111 rfl rfl ?_
    refine x_gR HE dX4_personLine_112 fd_X4_16 q1853 (Or.inl rfl) (Lay_X4.tag (f0.ext (EB.tr E108))) (Lay_X4_16 (f0.ext (EB.tr E108))).1 ?_
    refine x_iload_n HE 2 dX4_personLine_115 rfl rfl ?_
    refine x_iconst HE dX4_personLine_116 (by decide) ?_
    obtain ⟨v117, hw⟩ := hw
    refine x_iadd HE dX4_personLine_117 v117 ?_
    refine x_iload_n HE 3 dX4_personLine_118 rfl rfl ?_
    obtain ⟨i119, hw⟩ := hw
    refine x_iast HE dX4_personLine_119 ((Lay_X4_16 (f0.ext (EB.tr E108))).2.1) (ix_of ((Lay_X4_16 (f0.ext (EB.tr E108))).2.2) i119) (fun m119 em119 E119 => ?_)
    have hw := hw m119 em119
    refine x_aload_n HE 0 dX4_personLine_120 rfl rfl ?_
    refine x_gR HE dX4_personLine_121 fd_X4_16 q1853 (Or.inl rfl) (Lay_X4.tag (f0.ext (EB.tr (E108.tr E119)))) (Lay_X4_16 (f0.ext (EB.tr (E108.tr E119)))).1 ?_
    refine x_iload_n HE 2 dX4_personLine_124 rfl rfl ?_
    refine x_iconst HE dX4_personLine_125 (by decide) ?_
    obtain ⟨v126, hw⟩ := hw
    refine x_iadd HE dX4_personLine_126 v126 ?_
    refine x_iload_n HE 3 dX4_personLine_127 rfl rfl ?_
    refine x_iconst HE dX4_personLine_128 (by decide) ?_
    refine x_ic_eq HE 137 dX4_personLine_129 (by decide) (fun c129 => ?_) (fun c129 => ?_)
    · have hw := hw.1 c129
      refine Wx.mask [true, true, true, false, true, true, true] (lo2 := [some (rV x0), some (iV l1), some (iV l2), none, none, none, none]) rfl ?_
      exact w_X4_personLine_137 HE hr f0 hw
    · have hw := hw.2 c129
      refine x_iload_n HE 3 dX4_personLine_132 rfl rfl ?_
      refine x_iconst HE dX4_personLine_133 (by decide) ?_
      refine x_ic_ne HE 147 dX4_personLine_134 (by decide) (fun c134 => ?_) (fun c134 => ?_)
      · have hw := hw.1 c134
        refine x_iconst HE dX4_personLine_147 (by decide) ?_
        refine Wx.mask [true, true, true, false, true, true, true] (lo2 := [some (rV x0), some (iV l1), some (iV l2), none, none, none, none]) rfl ?_
        exact w_X4_personLine_148 HE hr f0 hw
      · have hw := hw.2 c134
        refine Wx.mask [true, true, true, false, true, true, true] (lo2 := [some (rV x0), some (iV l1), some (iV l2), none, none, none, none]) rfl ?_
        exact w_X4_personLine_137 HE hr f0 hw
  · have hw := hw.2 c103
    exact x_vret HE hr dX4_personLine_106 hw
def g_X4_personLine_b85 (x0 : Int) (Q : Hp → Prop) (l1 l2 s0 : Int) (h : Hp) : Prop :=
  ((0 ≤ s0) → (g_X4_personLine_b99 x0 Q l1 l2 s0 h)) ∧ ((s0 < 0) → (g_X4_wrong x0 1 (hF h x0 4) (fun m96 => Ext h m96 → (g_X4_personLine_b99 x0 Q l1 l2 s0 m96)) h))
theorem w_X4_personLine_85 {G : GT} {X : ET} {h0 : Hp} {x0 : Int} (HE : XE G X cX4_personLine 7 RX4 8 173 h0) (hr : XR X none) (f0 : Lay_X4 h0 x0) {Q : Hp → Prop} {l1 l2 s0 : Int} {h : Hp} (hw : g_X4_personLine_b85 x0 Q l1 l2 s0 h) : Wx G X h0 (QV Q) h 85 [some (rV x0), some (iV l1), some (iV l2), none, none, none, none] [iV s0] := by
  refine Wx.start (fun EB => ?_)
  unfold g_X4_personLine_b85 at hw
  refine x_istore_n HE 3 (lo' := [some (rV x0), some (iV l1), some (iV l2), some (iV s0), none, none, none]) dX4_personLine_85 rfl (Nat.le_of_ble_eq_true rfl) rfl ?_
  refine x_iload_n HE 3 dX4_personLine_86 rfl rfl ?_
  refine x_if_ge HE 99 dX4_personLine_87 (by decide) (fun c87 => ?_) (fun c87 => ?_)
  · have hw := hw.1 c87
    exact w_X4_personLine_99 HE hr f0 hw
  · have hw := hw.2 c87
    refine x_aload_n HE 0 dX4_personLine_90 rfl rfl ?_
    refine x_iconst HE dX4_personLine_91 (by decide) ?_
    refine x_aload_n HE 0 dX4_personLine_92 rfl rfl ?_
    refine x_gI HE dX4_personLine_93 fd_X4_4 q1841 (Or.inl rfl) (Lay_X4.tag (f0.ext EB)) rfl ?_
    refine x_callV HE dX4_personLine_96 rfl (fun l => k_X4_wrong (f0.ext EB) l hw) (As := [iV 1, iV (hF h x0 4)]) (rest := []) rfl xc10 (Lay_X4.tag (f0.ext EB)) (lw_V q2012 q2014 qs62 q129 q2015) hy_X4_wrong rfl rfl (Nat.le_of_ble_eq_true rfl) (Nat.le_of_ble_eq_true rfl) (Nat.le_of_ble_eq_true rfl) (kkV (fun m96 E96 hw => ?_))
    have hw := hw E96
    exact w_X4_personLine_99 HE hr f0 hw
def g_X4_personLine (x0 : Int) (Q : Hp → Prop) (h : Hp) : Prop :=
  (((hF h x0 13) = 0) → (∀ y14 : Int, y14 = (hA h (x0 + 4) 5) → ((i32 (7 * y14)) ∧ ((i32 (41 + (7 * y14))) ∧ (∀ y22 : Int, y22 = (41 + (7 * y14)) → ((i32 (8 + y14)) ∧ (g_X4_newName x0 (8 + y14) (fun m28 => Ext h m28 → (g_X4_isWord x0 (hF m28 0 23) (fun r34 m34 => Ext m28 m34 → (((r34 = 0) → (g_X4_isWord x0 (hF m34 0 24) (fun r47 m47 => Ext m34 m47 → (((r47 = 0) → (g_X4_isWord x0 (hF m47 0 25) (fun r61 m61 => Ext m47 m61 → (((r61 = 0) → (g_X4_isWord x0 (hF m61 0 17) (fun r74 m74 => Ext m61 m74 → (((r74 = 0) → (g_X4_personLine_b85 x0 Q y14 y22 (-1) m74)) ∧ ((r74 ≠ 0) → (g_X4_personLine_b85 x0 Q y14 y22 3 m74)))) m61)) ∧ ((r61 ≠ 0) → (g_X4_personLine_b85 x0 Q y14 y22 2 m61)))) m47)) ∧ ((r47 ≠ 0) → (g_X4_personLine_b85 x0 Q y14 y22 1 m47)))) m34)) ∧ ((r34 ≠ 0) → (g_X4_personLine_b85 x0 Q y14 y22 0 m34)))) m28)) h))))))) ∧ (((hF h x0 13) ≠ 0) → (Q h))
theorem w_X4_personLine_0 {G : GT} {X : ET} {h0 : Hp} {x0 : Int} (HE : XE G X cX4_personLine 7 RX4 8 173 h0) (hr : XR X none) (f0 : Lay_X4 h0 x0) {Q : Hp → Prop} {h : Hp} (hw : g_X4_personLine x0 Q h) : Wx G X h0 (QV Q) h 0 [some (rV x0), none, none, none, none, none, none] [] := by
  refine Wx.start (fun EB => ?_)
  unfold g_X4_personLine at hw
  refine x_aload_n HE 0 dX4_personLine_0 rfl rfl ?_
  refine x_gI HE dX4_personLine_1 fd_X4_13 q1850 (Or.inl rfl) (Lay_X4.tag (f0.ext EB)) rfl ?_
  refine x_if_eq HE 8 dX4_personLine_4 (by decide) (fun c4 => ?_) (fun c4 => ?_)
  · have hw := hw.1 c4
    refine x_aload_n HE 0 dX4_personLine_8 rfl rfl ?_
    refine x_gR HE dX4_personLine_9 fd_X4_16 q1853 (Or.inl rfl) (Lay_X4.tag (f0.ext EB)) (Lay_X4_16 (f0.ext EB)).1 ?_
    refine x_iconst HE dX4_personLine_12 (by decide) ?_
    refine x_iald HE dX4_personLine_13 (t := 1) (by decide) ((Lay_X4_16 (f0.ext EB)).2.1) (ix_of ((Lay_X4_16 (f0.ext EB)).2.2) (by decide)) rfl ?_
    refine x_istore_nN HE 1 (fun y14 => [some (rV x0), some (iV y14), none, none, none, none, none]) dX4_personLine_14 rfl (Nat.le_of_ble_eq_true rfl) (fun _ => rfl) (fun y14 ey14 => ?_)
    have hw := hw y14 ey14
    refine x_bipush HE dX4_personLine_15 (by decide) ?_
    refine x_bipush HE dX4_personLine_17 (by decide) ?_
    refine x_iload_n HE 1 dX4_personLine_19 rfl rfl ?_
    obtain ⟨v20, hw⟩ := hw
    refine x_imul HE dX4_personLine_20 v20 ?_
    obtain ⟨v21, hw⟩ := hw
    refine x_iadd HE dX4_personLine_21 v21 ?_
    refine x_istore_nN HE 2 (fun y22 => [some (rV x0), some (iV y14), some (iV y22), none, none, none, none]) dX4_personLine_22 rfl (Nat.le_of_ble_eq_true rfl) (fun _ => rfl) (fun y22 ey22 => ?_)
    have hw := hw y22 ey22
    refine x_aload_n HE 0 dX4_personLine_23 rfl rfl ?_
    refine x_bipush HE dX4_personLine_24 (by decide) ?_
    refine x_iload_n HE 1 dX4_personLine_26 rfl rfl ?_
    obtain ⟨v27, hw⟩ := hw
    refine x_iadd HE dX4_personLine_27 v27 ?_
    refine x_callV HE dX4_personLine_28 rfl (fun l => k_X4_newName (f0.ext EB) l hw) (As := [iV (8 + y14)]) (rest := []) rfl xc10 (Lay_X4.tag (f0.ext EB)) (lw_V q2043 q2045 qs69 q129 q2046) hy_X4_newName rfl rfl (Nat.le_of_ble_eq_true rfl) (Nat.le_of_ble_eq_true rfl) (Nat.le_of_ble_eq_true rfl) (kkV (fun m28 E28 hw => ?_))
    have hw := hw E28
    refine x_aload_n HE 0 dX4_personLine_31 rfl rfl ?_
    refine x_ldcS (k := 22) HE dX4_personLine_32 (List.mem_of_getElem? (i := 60) rfl) (fun hp32 => ?_)
    refine x_callV HE dX4_personLine_34 rfl (fun l => k_X4_isWord (f0.ext (EB.tr E28)) l hw) (As := [rV (hF m28 0 23)]) (rest := []) rfl xc10 (Lay_X4.tag (f0.ext (EB.tr E28))) (lw_V q1985 q1987 qs60 q129 q1988) hy_X4_isWord rfl rfl (Nat.le_of_ble_eq_true rfl) (Nat.le_of_ble_eq_true rfl) (Nat.le_of_ble_eq_true rfl) (kkI (fun r34 m34 E34 hw => ?_))
    have hw := hw E34
    refine x_if_eq HE 44 dX4_personLine_37 (by decide) (fun c37 => ?_) (fun c37 => ?_)
    · have hw := hw.1 c37
      refine x_aload_n HE 0 dX4_personLine_44 rfl rfl ?_
      refine x_ldcS (k := 23) HE dX4_personLine_45 (List.mem_of_getElem? (i := 61) rfl) (fun hp45 => ?_)
      refine x_callV HE dX4_personLine_47 rfl (fun l => k_X4_isWord (f0.ext (EB.tr (E28.tr E34))) l hw) (As := [rV (hF m34 0 24)]) (rest := []) rfl xc10 (Lay_X4.tag (f0.ext (EB.tr (E28.tr E34)))) (lw_V q1985 q1987 qs60 q129 q1988) hy_X4_isWord rfl rfl (Nat.le_of_ble_eq_true rfl) (Nat.le_of_ble_eq_true rfl) (Nat.le_of_ble_eq_true rfl) (kkI (fun r47 m47 E47 hw => ?_))
      have hw := hw E47
      refine x_if_eq HE 57 dX4_personLine_50 (by decide) (fun c50 => ?_) (fun c50 => ?_)
      · have hw := hw.1 c50
        refine x_aload_n HE 0 dX4_personLine_57 rfl rfl ?_
        refine x_ldcwS (k := 24) HE dX4_personLine_58 (List.mem_of_getElem? (i := 62) rfl) (fun hp58 => ?_)
        refine x_callV HE dX4_personLine_61 rfl (fun l => k_X4_isWord (f0.ext (EB.tr (E28.tr (E34.tr E47)))) l hw) (As := [rV (hF m47 0 25)]) (rest := []) rfl xc10 (Lay_X4.tag (f0.ext (EB.tr (E28.tr (E34.tr E47))))) (lw_V q1985 q1987 qs60 q129 q1988) hy_X4_isWord rfl rfl (Nat.le_of_ble_eq_true rfl) (Nat.le_of_ble_eq_true rfl) (Nat.le_of_ble_eq_true rfl) (kkI (fun r61 m61 E61 hw => ?_))
        have hw := hw E61
        refine x_if_eq HE 71 dX4_personLine_64 (by decide) (fun c64 => ?_) (fun c64 => ?_)
        · have hw := hw.1 c64
          refine x_aload_n HE 0 dX4_personLine_71 rfl rfl ?_
          refine x_ldcS (k := 16) HE dX4_personLine_72 (List.mem_of_getElem? (i := 54) rfl) (fun hp72 => ?_)
          refine x_callV HE dX4_personLine_74 rfl (fun l => k_X4_isWord (f0.ext (EB.tr (E28.tr (E34.tr (E47.tr E61))))) l hw) (As := [rV (hF m61 0 17)]) (rest := []) rfl xc10 (Lay_X4.tag (f0.ext (EB.tr (E28.tr (E34.tr (E47.tr E61)))))) (lw_V q1985 q1987 qs60 q129 q1988) hy_X4_isWord rfl rfl (Nat.le_of_ble_eq_true rfl) (Nat.le_of_ble_eq_true rfl) (Nat.le_of_ble_eq_true rfl) (kkI (fun r74 m74 E74 hw => ?_))
          have hw := hw E74
          refine x_if_eq HE 84 dX4_personLine_77 (by decide) (fun c77 => ?_) (fun c77 => ?_)
          · have hw := hw.1 c77
            refine x_iconst HE dX4_personLine_84 (by decide) ?_
            exact w_X4_personLine_85 HE hr f0 hw
          · have hw := hw.2 c77
            refine x_iconst HE dX4_personLine_80 (by decide) ?_
            refine x_goto HE 85 dX4_personLine_81 (by decide) ?_
            exact w_X4_personLine_85 HE hr f0 hw
        · have hw := hw.2 c64
          refine x_iconst HE dX4_personLine_67 (by decide) ?_
          refine x_goto HE 85 dX4_personLine_68 (by decide) ?_
          exact w_X4_personLine_85 HE hr f0 hw
      · have hw := hw.2 c50
        refine x_iconst HE dX4_personLine_53 (by decide) ?_
        refine x_goto HE 85 dX4_personLine_54 (by decide) ?_
        exact w_X4_personLine_85 HE hr f0 hw
    · have hw := hw.2 c37
      refine x_iconst HE dX4_personLine_40 (by decide) ?_
      refine x_goto HE 85 dX4_personLine_41 (by decide) ?_
      exact w_X4_personLine_85 HE hr f0 hw
  · have hw := hw.2 c4
    exact x_vret HE hr dX4_personLine_7 hw
theorem k_X4_personLine {G : GT} {x0 : Int} {Q : Hp → Prop} {h : Hp} (f0 : Lay_X4 h x0) (l : Launch) (hw : g_X4_personLine x0 Q h) : XM G l yX4_personLine cX4_personLine 7 none 8 173 [rV x0] (QV Q) h :=
  XM.of (by decide) (Nat.le_of_ble_eq_true rfl) (fun X HE hr hn => w_X4_personLine_0 HE hr f0 hw)
def g_X4_personHere (x0 : Int) (Q : Int → Hp → Prop) (h : Hp) : Prop :=
  g_X4_named x0 8 17 (fun r5 m5 => Ext h m5 → ((i32 (r5 - 5)) ∧ ((i32 ((r5 - 5) - 3)) ∧ (Q ((r5 - 5) - 3) m5)))) h
theorem w_X4_personHere_0 {G : GT} {X : ET} {h0 : Hp} {x0 : Int} (HE : XE G X cX4_personHere 1 RX4 7 152 h0) (hr : XR X (some .int)) (f0 : Lay_X4 h0 x0) {Q : Int → Hp → Prop} {h : Hp} (hw : g_X4_personHere x0 Q h) : Wx G X h0 (QI Q) h 0 [some (rV x0)] [] := by
  refine Wx.start (fun EB => ?_)
  unfold g_X4_personHere at hw
  refine x_aload_n HE 0 dX4_personHere_0 rfl rfl ?_
  refine x_bipush HE dX4_personHere_1 (by decide) ?_
  refine x_bipush HE dX4_personHere_3 (by decide) ?_
  refine x_callV HE dX4_personHere_5 rfl (fun l => k_X4_named (f0.ext EB) l hw) (As := [iV 8, iV 17]) (rest := []) rfl xc10 (Lay_X4.tag (f0.ext EB)) (lw_V q2087 q2089 qs74 q129 q2090) hy_X4_named rfl rfl (Nat.le_of_ble_eq_true rfl) (Nat.le_of_ble_eq_true rfl) (Nat.le_of_ble_eq_true rfl) (kkI (fun r5 m5 E5 hw => ?_))
  have hw := hw E5
  refine x_iconst HE dX4_personHere_8 (by decide) ?_
  obtain ⟨v9, hw⟩ := hw
  refine x_isub HE dX4_personHere_9 v9 ?_
  refine x_iconst HE dX4_personHere_10 (by decide) ?_
  obtain ⟨v11, hw⟩ := hw
  refine x_isub HE dX4_personHere_11 v11 ?_
  exact x_iret HE hr dX4_personHere_12 hw
theorem k_X4_personHere {G : GT} {x0 : Int} {Q : Int → Hp → Prop} {h : Hp} (f0 : Lay_X4 h x0) (l : Launch) (hw : g_X4_personHere x0 Q h) : XM G l yX4_personHere cX4_personHere 1 (some .int) 7 152 [rV x0] (QI Q) h :=
  XM.of (by decide) (Nat.le_of_ble_eq_true rfl) (fun X HE hr hn => w_X4_personHere_0 HE hr f0 hw)
def g_X4_shelfLine_b47 (x0 : Int) (Q : Hp → Prop) (l1 : Int) (h : Hp) : Prop :=
  (((hF h x0 13) = 0) → (g_X4_nextToken x0 (fun m56 => Ext h m56 → (g_X4_after x0 (hF m56 0 30) 0 (hA m56 (x0 + 4) 2) (fun r70 m70 => Ext m56 m70 → ((((hF m70 x0 13) = 0) → ((i32 (7 * l1)) ∧ ((i32 (41 + (7 * l1))) ∧ ((i32 ((41 + (7 * l1)) + 6)) ∧ ((i32 (r70 + 1)) ∧ (((0 : Int) ≤ ((41 + (7 * l1)) + 6) ∧ ((41 + (7 * l1)) + 6) < 347) ∧ (∀ m99 : Hp, m99 = setA m70 (x0 + 4) ((41 + (7 * l1)) + 6) (r70 + 1) → ((i32 ((hA m99 (x0 + 4) 6) + 1)) ∧ (∀ m110 : Hp, m110 = setA m99 (x0 + 4) 6 ((hA m99 (x0 + 4) 6) + 1) → (Q m110)))))))))) ∧ (((hF m70 x0 13) ≠ 0) → (Q m70)))) m56)) h)) ∧ (((hF h x0 13) ≠ 0) → (Q h))
theorem w_X4_shelfLine_47 {G : GT} {X : ET} {h0 : Hp} {x0 : Int} (HE : XE G X cX4_shelfLine 3 RX4 8 173 h0) (hr : XR X none) (f0 : Lay_X4 h0 x0) {Q : Hp → Prop} {l1 : Int} {h : Hp} (hw : g_X4_shelfLine_b47 x0 Q l1 h) : Wx G X h0 (QV Q) h 47 [some (rV x0), some (iV l1), none] [] := by
  refine Wx.start (fun EB => ?_)
  unfold g_X4_shelfLine_b47 at hw
  refine x_aload_n HE 0 dX4_shelfLine_47 rfl rfl ?_
  refine x_gI HE dX4_shelfLine_48 fd_X4_13 q1850 (Or.inl rfl) (Lay_X4.tag (f0.ext EB)) rfl ?_
  refine x_if_eq HE 55 dX4_shelfLine_51 (by decide) (fun c51 => ?_) (fun c51 => ?_)
  · have hw := hw.1 c51
    refine x_aload_n HE 0 dX4_shelfLine_55 rfl rfl ?_
    refine x_callV HE dX4_shelfLine_56 rfl (fun l => k_X4_nextToken (f0.ext EB) l hw) (As := []) (rest := []) rfl xc10 (Lay_X4.tag (f0.ext EB)) (lw_V q1966 q1968 qs57 q129 q1969) hy_X4_nextToken rfl rfl (Nat.le_of_ble_eq_true rfl) (Nat.le_of_ble_eq_true rfl) (Nat.le_of_ble_eq_true rfl) (kkV (fun m56 E56 hw => ?_))
    have hw := hw E56
    refine x_aload_n HE 0 dX4_shelfLine_59 rfl rfl ?_
    refine x_ldcwS (k := 29) HE dX4_shelfLine_60 (List.mem_of_getElem? (i := 67) rfl) (fun hp60 => ?_)
    refine x_iconst HE dX4_shelfLine_63 (by decide) ?_
    refine x_aload_n HE 0 dX4_shelfLine_64 rfl rfl ?_
    refine x_gR HE dX4_shelfLine_65 fd_X4_16 q1853 (Or.inl rfl) (Lay_X4.tag (f0.ext (EB.tr E56))) (Lay_X4_16 (f0.ext (EB.tr E56))).1 ?_
    refine x_iconst HE dX4_shelfLine_68 (by decide) ?_
    refine x_iald HE dX4_shelfLine_69 (t := 1) (by decide) ((Lay_X4_16 (f0.ext (EB.tr E56))).2.1) (ix_of ((Lay_X4_16 (f0.ext (EB.tr E56))).2.2) (by decide)) rfl ?_
    refine x_callV HE dX4_shelfLine_70 rfl (fun l => k_X4_after (f0.ext (EB.tr E56)) l hw) (As := [rV (hF m56 0 30), iV 0, iV (hA m56 (x0 + 4) 2)]) (rest := []) rfl xc10 (Lay_X4.tag (f0.ext (EB.tr E56))) (lw_V q2017 q2019 qs63 q129 q2020) hy_X4_after rfl rfl (Nat.le_of_ble_eq_true rfl) (Nat.le_of_ble_eq_true rfl) (Nat.le_of_ble_eq_true rfl) (kkI (fun r70 m70 E70 hw => ?_))
    have hw := hw E70
    refine x_istore_n HE 2 (lo' := [some (rV x0), some (iV l1), some (iV r70)]) dX4_shelfLine_73 rfl (Nat.le_of_ble_eq_true rfl) rfl ?_
    refine x_aload_n HE 0 dX4_shelfLine_74 rfl rfl ?_
    refine x_gI HE dX4_shelfLine_75 fd_X4_13 q1850 (Or.inl rfl) (Lay_X4.tag (f0.ext (EB.tr (E56.tr E70)))) rfl ?_
    refine x_if_eq HE 82 dX4_shelfLine_78 (by decide) (fun c78 => ?_) (fun c78 => ?_)
    · have hw := hw.1 c78
      refine x_aload_n HE 0 dX4_shelfLine_82 rfl rfl ?_
      refine x_gR HE dX4_shelfLine_83 fd_X4_16 q1853 (Or.inl rfl) (Lay_X4.tag (f0.ext (EB.tr (E56.tr E70)))) (Lay_X4_16 (f0.ext (EB.tr (E56.tr E70)))).1 ?_
      refine x_bipush HE dX4_shelfLine_86 (by decide) ?_
      refine x_bipush HE dX4_shelfLine_88 (by decide) ?_
      refine x_iload_n HE 1 dX4_shelfLine_90 rfl rfl ?_
      obtain ⟨v91, hw⟩ := hw
      refine x_imul HE dX4_shelfLine_91 v91 ?_
      obtain ⟨v92, hw⟩ := hw
      refine x_iadd HE dX4_shelfLine_92 v92 ?_
      refine x_bipush HE dX4_shelfLine_93 (by decide) ?_
      obtain ⟨v95, hw⟩ := hw
      refine x_iadd HE dX4_shelfLine_95 v95 ?_
      refine x_iload_n HE 2 dX4_shelfLine_96 rfl rfl ?_
      refine x_iconst HE dX4_shelfLine_97 (by decide) ?_
      obtain ⟨v98, hw⟩ := hw
      refine x_iadd HE dX4_shelfLine_98 v98 ?_
      obtain ⟨i99, hw⟩ := hw
      refine x_iast HE dX4_shelfLine_99 ((Lay_X4_16 (f0.ext (EB.tr (E56.tr E70)))).2.1) (ix_of ((Lay_X4_16 (f0.ext (EB.tr (E56.tr E70)))).2.2) i99) (fun m99 em99 E99 => ?_)
      have hw := hw m99 em99
      refine x_aload_n HE 0 dX4_shelfLine_100 rfl rfl ?_
      refine x_gR HE dX4_shelfLine_101 fd_X4_16 q1853 (Or.inl rfl) (Lay_X4.tag (f0.ext (EB.tr (E56.tr (E70.tr E99))))) (Lay_X4_16 (f0.ext (EB.tr (E56.tr (E70.tr E99))))).1 ?_
      refine x_bipush HE dX4_shelfLine_104 (by decide) ?_
      refine x_dup2 HE dX4_shelfLine_106 (fun o => o) (fun o => o) ?_
      refine x_iald HE dX4_shelfLine_107 (t := 1) (by decide) ((Lay_X4_16 (f0.ext (EB.tr (E56.tr (E70.tr E99))))).2.1) (ix_of ((Lay_X4_16 (f0.ext (EB.tr (E56.tr (E70.tr E99))))).2.2) (by decide)) rfl ?_
      refine x_iconst HE dX4_shelfLine_108 (by decide) ?_
      obtain ⟨v109, hw⟩ := hw
      refine x_iadd HE dX4_shelfLine_109 v109 ?_
      refine x_iast HE dX4_shelfLine_110 ((Lay_X4_16 (f0.ext (EB.tr (E56.tr (E70.tr E99))))).2.1) (ix_of ((Lay_X4_16 (f0.ext (EB.tr (E56.tr (E70.tr E99))))).2.2) (by decide)) (fun m110 em110 E110 => ?_)
      have hw := hw m110 em110
      exact x_vret HE hr dX4_shelfLine_111 hw
    · have hw := hw.2 c78
      exact x_vret HE hr dX4_shelfLine_81 hw
  · have hw := hw.2 c51
    exact x_vret HE hr dX4_shelfLine_54 hw
def g_X4_shelfLine (x0 : Int) (Q : Hp → Prop) (h : Hp) : Prop :=
  (((hF h x0 13) = 0) → (g_X4_personHere x0 (fun r9 m9 => Ext h m9 → ((((hF m9 x0 13) ≠ 0) → (g_X4_shelfLine_b47 x0 Q r9 m9)) ∧ (((hF m9 x0 13) = 0) → ((i32 (7 * r9)) ∧ ((i32 (41 + (7 * r9))) ∧ ((i32 ((41 + (7 * r9)) + 6)) ∧ (((0 : Int) ≤ ((41 + (7 * r9)) + 6) ∧ ((41 + (7 * r9)) + 6) < 347) ∧ ((((hA m9 (x0 + 4) ((41 + (7 * r9)) + 6)) ≤ 0) → (g_X4_shelfLine_b47 x0 Q r9 m9)) ∧ ((0 < (hA m9 (x0 + 4) ((41 + (7 * r9)) + 6))) → (g_X4_wrong x0 3 (hF m9 x0 4) (fun m44 => Ext m9 m44 → (g_X4_shelfLine_b47 x0 Q r9 m44)) m9)))))))))) h)) ∧ (((hF h x0 13) ≠ 0) → (Q h))
theorem w_X4_shelfLine_0 {G : GT} {X : ET} {h0 : Hp} {x0 : Int} (HE : XE G X cX4_shelfLine 3 RX4 8 173 h0) (hr : XR X none) (f0 : Lay_X4 h0 x0) {Q : Hp → Prop} {h : Hp} (hw : g_X4_shelfLine x0 Q h) : Wx G X h0 (QV Q) h 0 [some (rV x0), none, none] [] := by
  refine Wx.start (fun EB => ?_)
  unfold g_X4_shelfLine at hw
  refine x_aload_n HE 0 dX4_shelfLine_0 rfl rfl ?_
  refine x_gI HE dX4_shelfLine_1 fd_X4_13 q1850 (Or.inl rfl) (Lay_X4.tag (f0.ext EB)) rfl ?_
  refine x_if_eq HE 8 dX4_shelfLine_4 (by decide) (fun c4 => ?_) (fun c4 => ?_)
  · have hw := hw.1 c4
    refine x_aload_n HE 0 dX4_shelfLine_8 rfl rfl ?_
    refine x_callV HE dX4_shelfLine_9 rfl (fun l => k_X4_personHere (f0.ext EB) l hw) (As := []) (rest := []) rfl xc10 (Lay_X4.tag (f0.ext EB)) (lw_V q2099 q2101 qs77 q129 q2102) hy_X4_personHere rfl rfl (Nat.le_of_ble_eq_true rfl) (Nat.le_of_ble_eq_true rfl) (Nat.le_of_ble_eq_true rfl) (kkI (fun r9 m9 E9 hw => ?_))
    have hw := hw E9
    refine x_istore_n HE 1 (lo' := [some (rV x0), some (iV r9), none]) dX4_shelfLine_12 rfl (Nat.le_of_ble_eq_true rfl) rfl ?_
    refine x_aload_n HE 0 dX4_shelfLine_13 rfl rfl ?_
    refine x_gI HE dX4_shelfLine_14 fd_X4_13 q1850 (Or.inl rfl) (Lay_X4.tag (f0.ext (EB.tr E9))) rfl ?_
    refine x_if_ne HE 47 dX4_shelfLine_17 (by decide) (fun c17 => ?_) (fun c17 => ?_)
    · have hw := hw.1 c17
      exact w_X4_shelfLine_47 HE hr f0 hw
    · have hw := hw.2 c17
      refine x_aload_n HE 0 dX4_shelfLine_20 rfl rfl ?_
      refine x_gR HE dX4_shelfLine_21 fd_X4_16 q1853 (Or.inl rfl) (Lay_X4.tag (f0.ext (EB.tr E9))) (Lay_X4_16 (f0.ext (EB.tr E9))).1 ?_
      refine x_bipush HE dX4_shelfLine_24 (by decide) ?_
      refine x_bipush HE dX4_shelfLine_26 (by decide) ?_
      refine x_iload_n HE 1 dX4_shelfLine_28 rfl rfl ?_
      obtain ⟨v29, hw⟩ := hw
      refine x_imul HE dX4_shelfLine_29 v29 ?_
      obtain ⟨v30, hw⟩ := hw
      refine x_iadd HE dX4_shelfLine_30 v30 ?_
      refine x_bipush HE dX4_shelfLine_31 (by decide) ?_
      obtain ⟨v33, hw⟩ := hw
      refine x_iadd HE dX4_shelfLine_33 v33 ?_
      obtain ⟨i34, hw⟩ := hw
      refine x_iald HE dX4_shelfLine_34 (t := 1) (by decide) ((Lay_X4_16 (f0.ext (EB.tr E9))).2.1) (ix_of ((Lay_X4_16 (f0.ext (EB.tr E9))).2.2) i34) rfl ?_
      refine x_if_le HE 47 dX4_shelfLine_35 (by decide) (fun c35 => ?_) (fun c35 => ?_)
      · have hw := hw.1 c35
        exact w_X4_shelfLine_47 HE hr f0 hw
      · have hw := hw.2 c35
        refine x_aload_n HE 0 dX4_shelfLine_38 rfl rfl ?_
        refine x_iconst HE dX4_shelfLine_39 (by decide) ?_
        refine x_aload_n HE 0 dX4_shelfLine_40 rfl rfl ?_
        refine x_gI HE dX4_shelfLine_41 fd_X4_4 q1841 (Or.inl rfl) (Lay_X4.tag (f0.ext (EB.tr E9))) rfl ?_
        refine x_callV HE dX4_shelfLine_44 rfl (fun l => k_X4_wrong (f0.ext (EB.tr E9)) l hw) (As := [iV 3, iV (hF m9 x0 4)]) (rest := []) rfl xc10 (Lay_X4.tag (f0.ext (EB.tr E9))) (lw_V q2012 q2014 qs62 q129 q2015) hy_X4_wrong rfl rfl (Nat.le_of_ble_eq_true rfl) (Nat.le_of_ble_eq_true rfl) (Nat.le_of_ble_eq_true rfl) (kkV (fun m44 E44 hw => ?_))
        have hw := hw E44
        exact w_X4_shelfLine_47 HE hr f0 hw
  · have hw := hw.2 c4
    exact x_vret HE hr dX4_shelfLine_7 hw
theorem k_X4_shelfLine {G : GT} {x0 : Int} {Q : Hp → Prop} {h : Hp} (f0 : Lay_X4 h x0) (l : Launch) (hw : g_X4_shelfLine x0 Q h) : XM G l yX4_shelfLine cX4_shelfLine 3 none 8 173 [rV x0] (QV Q) h :=
  XM.of (by decide) (Nat.le_of_ble_eq_true rfl) (fun X HE hr hn => w_X4_shelfLine_0 HE hr f0 hw)
def g_X4_personPassed_b16 (x0 : Int) (Q : Int → Hp → Prop) (l1 : Int) (h : Hp) : Prop :=
  Q l1 h
theorem w_X4_personPassed_16 {G : GT} {X : ET} {h0 : Hp} {x0 : Int} (HE : XE G X cX4_personPassed 2 RX4 8 172 h0) (hr : XR X (some .int)) (f0 : Lay_X4 h0 x0) {Q : Int → Hp → Prop} {l1 : Int} {h : Hp} (hw : g_X4_personPassed_b16 x0 Q l1 h) : Wx G X h0 (QI Q) h 16 [some (rV x0), some (iV l1)] [] := by
  refine Wx.start (fun EB => ?_)
  unfold g_X4_personPassed_b16 at hw
  refine x_iload_n HE 1 dX4_personPassed_16 rfl rfl ?_
  exact x_iret HE hr dX4_personPassed_17 hw
def g_X4_personPassed (x0 : Int) (Q : Int → Hp → Prop) (h : Hp) : Prop :=
  g_X4_personHere x0 (fun r1 m1 => Ext h m1 → ((((hF m1 x0 13) ≠ 0) → (g_X4_personPassed_b16 x0 Q r1 m1)) ∧ (((hF m1 x0 13) = 0) → (g_X4_nextToken x0 (fun m13 => Ext m1 m13 → (g_X4_personPassed_b16 x0 Q r1 m13)) m1)))) h
theorem w_X4_personPassed_0 {G : GT} {X : ET} {h0 : Hp} {x0 : Int} (HE : XE G X cX4_personPassed 2 RX4 8 172 h0) (hr : XR X (some .int)) (f0 : Lay_X4 h0 x0) {Q : Int → Hp → Prop} {h : Hp} (hw : g_X4_personPassed x0 Q h) : Wx G X h0 (QI Q) h 0 [some (rV x0), none] [] := by
  refine Wx.start (fun EB => ?_)
  unfold g_X4_personPassed at hw
  refine x_aload_n HE 0 dX4_personPassed_0 rfl rfl ?_
  refine x_callV HE dX4_personPassed_1 rfl (fun l => k_X4_personHere (f0.ext EB) l hw) (As := []) (rest := []) rfl xc10 (Lay_X4.tag (f0.ext EB)) (lw_V q2099 q2101 qs77 q129 q2102) hy_X4_personHere rfl rfl (Nat.le_of_ble_eq_true rfl) (Nat.le_of_ble_eq_true rfl) (Nat.le_of_ble_eq_true rfl) (kkI (fun r1 m1 E1 hw => ?_))
  have hw := hw E1
  refine x_istore_n HE 1 (lo' := [some (rV x0), some (iV r1)]) dX4_personPassed_4 rfl (Nat.le_of_ble_eq_true rfl) rfl ?_
  refine x_aload_n HE 0 dX4_personPassed_5 rfl rfl ?_
  refine x_gI HE dX4_personPassed_6 fd_X4_13 q1850 (Or.inl rfl) (Lay_X4.tag (f0.ext (EB.tr E1))) rfl ?_
  refine x_if_ne HE 16 dX4_personPassed_9 (by decide) (fun c9 => ?_) (fun c9 => ?_)
  · have hw := hw.1 c9
    exact w_X4_personPassed_16 HE hr f0 hw
  · have hw := hw.2 c9
    refine x_aload_n HE 0 dX4_personPassed_12 rfl rfl ?_
    refine x_callV HE dX4_personPassed_13 rfl (fun l => k_X4_nextToken (f0.ext (EB.tr E1)) l hw) (As := []) (rest := []) rfl xc10 (Lay_X4.tag (f0.ext (EB.tr E1))) (lw_V q1966 q1968 qs57 q129 q1969) hy_X4_nextToken rfl rfl (Nat.le_of_ble_eq_true rfl) (Nat.le_of_ble_eq_true rfl) (Nat.le_of_ble_eq_true rfl) (kkV (fun m13 E13 hw => ?_))
    have hw := hw E13
    exact w_X4_personPassed_16 HE hr f0 hw
theorem k_X4_personPassed {G : GT} {x0 : Int} {Q : Int → Hp → Prop} {h : Hp} (f0 : Lay_X4 h x0) (l : Launch) (hw : g_X4_personPassed x0 Q h) : XM G l yX4_personPassed cX4_personPassed 2 (some .int) 8 172 [rV x0] (QI Q) h :=
  XM.of (by decide) (Nat.le_of_ble_eq_true rfl) (fun X HE hr hn => w_X4_personPassed_0 HE hr f0 hw)
def g_X4_saysLine_b84 (x0 : Int) (Q : Hp → Prop) (l1 l2 : Int) (h : Hp) : Prop :=
  (((hF h x0 13) = 0) → (g_X4_nextToken x0 (fun m93 => Ext h m93 → ((i32 (l1 + 2)) ∧ (((0 : Int) ≤ (l1 + 2) ∧ (l1 + 2) < 347) ∧ (∀ m104 : Hp, m104 = setA m93 (x0 + 4) (l1 + 2) l2 → ((i32 ((hA m104 (x0 + 4) 7) + 1)) ∧ (∀ m115 : Hp, m115 = setA m104 (x0 + 4) 7 ((hA m104 (x0 + 4) 7) + 1) → (Q m115))))))) h)) ∧ (((hF h x0 13) ≠ 0) → (Q h))
theorem w_X4_saysLine_84 {G : GT} {X : ET} {h0 : Hp} {x0 : Int} (HE : XE G X cX4_saysLine 3 RX4 9 193 h0) (hr : XR X none) (f0 : Lay_X4 h0 x0) {Q : Hp → Prop} {l1 l2 : Int} {h : Hp} (hw : g_X4_saysLine_b84 x0 Q l1 l2 h) : Wx G X h0 (QV Q) h 84 [some (rV x0), some (iV l1), some (iV l2)] [] := by
  refine Wx.start (fun EB => ?_)
  unfold g_X4_saysLine_b84 at hw
  refine x_aload_n HE 0 dX4_saysLine_84 rfl rfl ?_
  refine x_gI HE dX4_saysLine_85 fd_X4_13 q1850 (Or.inl rfl) (Lay_X4.tag (f0.ext EB)) rfl ?_
  refine x_if_eq HE 92 dX4_saysLine_88 (by decide) (fun c88 => ?_) (fun c88 => ?_)
  · have hw := hw.1 c88
    refine x_aload_n HE 0 dX4_saysLine_92 rfl rfl ?_
    refine x_callV HE dX4_saysLine_93 rfl (fun l => k_X4_nextToken (f0.ext EB) l hw) (As := []) (rest := []) rfl xc10 (Lay_X4.tag (f0.ext EB)) (lw_V q1966 q1968 qs57 q129 q1969) hy_X4_nextToken rfl rfl (Nat.le_of_ble_eq_true rfl) (Nat.le_of_ble_eq_true rfl) (Nat.le_of_ble_eq_true rfl) (kkV (fun m93 E93 hw => ?_))
    have hw := hw E93
    refine x_aload_n HE 0 dX4_saysLine_96 rfl rfl ?_
    refine x_gR HE dX4_saysLine_97 fd_X4_16 q1853 (Or.inl rfl) (Lay_X4.tag (f0.ext (EB.tr E93))) (Lay_X4_16 (f0.ext (EB.tr E93))).1 ?_
    refine x_iload_n HE 1 dX4_saysLine_100 rfl rfl ?_
    refine x_iconst HE dX4_saysLine_101 (by decide) ?_
    obtain ⟨v102, hw⟩ := hw
    refine x_iadd HE dX4_saysLine_102 v102 ?_
    refine x_iload_n HE 2 dX4_saysLine_103 rfl rfl ?_
    obtain ⟨i104, hw⟩ := hw
    refine x_iast HE dX4_saysLine_104 ((Lay_X4_16 (f0.ext (EB.tr E93))).2.1) (ix_of ((Lay_X4_16 (f0.ext (EB.tr E93))).2.2) i104) (fun m104 em104 E104 => ?_)
    have hw := hw m104 em104
    refine x_aload_n HE 0 dX4_saysLine_105 rfl rfl ?_
    refine x_gR HE dX4_saysLine_106 fd_X4_16 q1853 (Or.inl rfl) (Lay_X4.tag (f0.ext (EB.tr (E93.tr E104)))) (Lay_X4_16 (f0.ext (EB.tr (E93.tr E104)))).1 ?_
    refine x_bipush HE dX4_saysLine_109 (by decide) ?_
    refine x_dup2 HE dX4_saysLine_111 (fun o => o) (fun o => o) ?_
    refine x_iald HE dX4_saysLine_112 (t := 1) (by decide) ((Lay_X4_16 (f0.ext (EB.tr (E93.tr E104)))).2.1) (ix_of ((Lay_X4_16 (f0.ext (EB.tr (E93.tr E104)))).2.2) (by decide)) rfl ?_
    refine x_iconst HE dX4_saysLine_113 (by decide) ?_
    obtain ⟨v114, hw⟩ := hw
    refine x_iadd HE dX4_saysLine_114 v114 ?_
    refine x_iast HE dX4_saysLine_115 ((Lay_X4_16 (f0.ext (EB.tr (E93.tr E104)))).2.1) (ix_of ((Lay_X4_16 (f0.ext (EB.tr (E93.tr E104)))).2.2) (by decide)) (fun m115 em115 E115 => ?_)
    have hw := hw m115 em115
    exact x_vret HE hr dX4_saysLine_116 hw
  · have hw := hw.2 c88
    exact x_vret HE hr dX4_saysLine_91 hw
def g_X4_saysLine (x0 : Int) (Q : Hp → Prop) (h : Hp) : Prop :=
  (((hF h x0 13) = 0) → ((i32 (3 * (hA h (x0 + 4) 7))) ∧ ((i32 (161 + (3 * (hA h (x0 + 4) 7)))) ∧ (∀ y21 : Int, y21 = (161 + (3 * (hA h (x0 + 4) 7))) → (g_X4_personPassed x0 (fun r28 m28 => Ext h m28 → (((0 : Int) ≤ y21 ∧ y21 < 347) ∧ (∀ m31 : Hp, m31 = setA m28 (x0 + 4) y21 r28 → ((i32 (y21 + 1)) ∧ (g_X4_personPassed x0 (fun r40 m40 => Ext m31 m40 → (((0 : Int) ≤ (y21 + 1) ∧ (y21 + 1) < 347) ∧ (∀ m43 : Hp, m43 = setA m40 (x0 + 4) (y21 + 1) r40 → (g_X4_must x0 (hF m43 0 31) (fun m48 => Ext m43 m48 → (g_X4_personHere x0 (fun r52 m52 => Ext m48 m52 → ((((hF m52 x0 13) ≠ 0) → (g_X4_saysLine_b84 x0 Q y21 r52 m52)) ∧ (((hF m52 x0 13) = 0) → ((i32 (y21 + 1)) ∧ (((0 : Int) ≤ (y21 + 1) ∧ (y21 + 1) < 347) ∧ (((r52 ≠ (hA m52 (x0 + 4) (y21 + 1))) → (g_X4_saysLine_b84 x0 Q y21 r52 m52)) ∧ ((r52 = (hA m52 (x0 + 4) (y21 + 1))) → (g_X4_wrong x0 3 (hF m52 x0 4) (fun m81 => Ext m52 m81 → (g_X4_saysLine_b84 x0 Q y21 r52 m81)) m52)))))))) m48)) m43)))) m31))))) h))))) ∧ (((hF h x0 13) ≠ 0) → (Q h))
theorem w_X4_saysLine_0 {G : GT} {X : ET} {h0 : Hp} {x0 : Int} (HE : XE G X cX4_saysLine 3 RX4 9 193 h0) (hr : XR X none) (f0 : Lay_X4 h0 x0) {Q : Hp → Prop} {h : Hp} (hw : g_X4_saysLine x0 Q h) : Wx G X h0 (QV Q) h 0 [some (rV x0), none, none] [] := by
  refine Wx.start (fun EB => ?_)
  unfold g_X4_saysLine at hw
  refine x_aload_n HE 0 dX4_saysLine_0 rfl rfl ?_
  refine x_gI HE dX4_saysLine_1 fd_X4_13 q1850 (Or.inl rfl) (Lay_X4.tag (f0.ext EB)) rfl ?_
  refine x_if_eq HE 8 dX4_saysLine_4 (by decide) (fun c4 => ?_) (fun c4 => ?_)
  · have hw := hw.1 c4
    refine x_sipush HE dX4_saysLine_8 (by decide) ?_
    refine x_iconst HE dX4_saysLine_11 (by decide) ?_
    refine x_aload_n HE 0 dX4_saysLine_12 rfl rfl ?_
    refine x_gR HE dX4_saysLine_13 fd_X4_16 q1853 (Or.inl rfl) (Lay_X4.tag (f0.ext EB)) (Lay_X4_16 (f0.ext EB)).1 ?_
    refine x_bipush HE dX4_saysLine_16 (by decide) ?_
    refine x_iald HE dX4_saysLine_18 (t := 1) (by decide) ((Lay_X4_16 (f0.ext EB)).2.1) (ix_of ((Lay_X4_16 (f0.ext EB)).2.2) (by decide)) rfl ?_
    obtain ⟨v19, hw⟩ := hw
    refine x_imul HE dX4_saysLine_19 v19 ?_
    obtain ⟨v20, hw⟩ := hw
    refine x_iadd HE dX4_saysLine_20 v20 ?_
    refine x_istore_nN HE 1 (fun y21 => [some (rV x0), some (iV y21), none]) dX4_saysLine_21 rfl (Nat.le_of_ble_eq_true rfl) (fun _ => rfl) (fun y21 ey21 => ?_)
    have hw := hw y21 ey21
    refine x_aload_n HE 0 dX4_saysLine_22 rfl rfl ?_
    refine x_gR HE dX4_saysLine_23 fd_X4_16 q1853 (Or.inl rfl) (Lay_X4.tag (f0.ext EB)) (Lay_X4_16 (f0.ext EB)).1 ?_
    refine x_iload_n HE 1 dX4_saysLine_26 rfl rfl ?_
    refine x_aload_n HE 0 dX4_saysLine_27 rfl rfl ?_
    refine x_callV HE dX4_saysLine_28 rfl (fun l => k_X4_personPassed (f0.ext EB) l hw) (As := []) (rest := [iV y21, rV (x0 + 4)]) rfl xc10 (Lay_X4.tag (f0.ext EB)) (lw_V q2108 q2110 qs79 q129 q2111) hy_X4_personPassed rfl rfl (Nat.le_of_ble_eq_true rfl) (Nat.le_of_ble_eq_true rfl) (Nat.le_of_ble_eq_true rfl) (kkI (fun r28 m28 E28 hw => ?_))
    have hw := hw E28
    obtain ⟨i31, hw⟩ := hw
    refine x_iast HE dX4_saysLine_31 ((Lay_X4_16 (f0.ext (EB.tr E28))).2.1) (ix_of ((Lay_X4_16 (f0.ext (EB.tr E28))).2.2) i31) (fun m31 em31 E31 => ?_)
    have hw := hw m31 em31
    refine x_aload_n HE 0 dX4_saysLine_32 rfl rfl ?_
    refine x_gR HE dX4_saysLine_33 fd_X4_16 q1853 (Or.inl rfl) (Lay_X4.tag (f0.ext (EB.tr (E28.tr E31)))) (Lay_X4_16 (f0.ext (EB.tr (E28.tr E31)))).1 ?_
    refine x_iload_n HE 1 dX4_saysLine_36 rfl rfl ?_
    refine x_iconst HE dX4_saysLine_37 (by decide) ?_
    obtain ⟨v38, hw⟩ := hw
    refine x_iadd HE dX4_saysLine_38 v38 ?_
    refine x_aload_n HE 0 dX4_saysLine_39 rfl rfl ?_
    refine x_callV HE dX4_saysLine_40 rfl (fun l => k_X4_personPassed (f0.ext (EB.tr (E28.tr E31))) l hw) (As := []) (rest := [iV (y21 + 1), rV (x0 + 4)]) rfl xc10 (Lay_X4.tag (f0.ext (EB.tr (E28.tr E31)))) (lw_V q2108 q2110 qs79 q129 q2111) hy_X4_personPassed rfl rfl (Nat.le_of_ble_eq_true rfl) (Nat.le_of_ble_eq_true rfl) (Nat.le_of_ble_eq_true rfl) (kkI (fun r40 m40 E40 hw => ?_))
    have hw := hw E40
    obtain ⟨i43, hw⟩ := hw
    refine x_iast HE dX4_saysLine_43 ((Lay_X4_16 (f0.ext (EB.tr (E28.tr (E31.tr E40))))).2.1) (ix_of ((Lay_X4_16 (f0.ext (EB.tr (E28.tr (E31.tr E40))))).2.2) i43) (fun m43 em43 E43 => ?_)
    have hw := hw m43 em43
    refine x_aload_n HE 0 dX4_saysLine_44 rfl rfl ?_
    refine x_ldcwS (k := 30) HE dX4_saysLine_45 (List.mem_of_getElem? (i := 68) rfl) (fun hp45 => ?_)
    refine x_callV HE dX4_saysLine_48 rfl (fun l => k_X4_must (f0.ext (EB.tr (E28.tr (E31.tr (E40.tr E43))))) l hw) (As := [rV (hF m43 0 31)]) (rest := []) rfl xc10 (Lay_X4.tag (f0.ext (EB.tr (E28.tr (E31.tr (E40.tr E43)))))) (lw_V q2021 q2023 qs64 q129 q2024) hy_X4_must rfl rfl (Nat.le_of_ble_eq_true rfl) (Nat.le_of_ble_eq_true rfl) (Nat.le_of_ble_eq_true rfl) (kkV (fun m48 E48 hw => ?_))
    have hw := hw E48
    refine x_aload_n HE 0 dX4_saysLine_51 rfl rfl ?_
    refine x_callV HE dX4_saysLine_52 rfl (fun l => k_X4_personHere (f0.ext (EB.tr (E28.tr (E31.tr (E40.tr (E43.tr E48)))))) l hw) (As := []) (rest := []) rfl xc10 (Lay_X4.tag (f0.ext (EB.tr (E28.tr (E31.tr (E40.tr (E43.tr E48))))))) (lw_V q2099 q2101 qs77 q129 q2102) hy_X4_personHere rfl rfl (Nat.le_of_ble_eq_true rfl) (Nat.le_of_ble_eq_true rfl) (Nat.le_of_ble_eq_true rfl) (kkI (fun r52 m52 E52 hw => ?_))
    have hw := hw E52
    refine x_istore_n HE 2 (lo' := [some (rV x0), some (iV y21), some (iV r52)]) dX4_saysLine_55 rfl (Nat.le_of_ble_eq_true rfl) rfl ?_
    refine x_aload_n HE 0 dX4_saysLine_56 rfl rfl ?_
    refine x_gI HE dX4_saysLine_57 fd_X4_13 q1850 (Or.inl rfl) (Lay_X4.tag (f0.ext (EB.tr (E28.tr (E31.tr (E40.tr (E43.tr (E48.tr E52)))))))) rfl ?_
    refine x_if_ne HE 84 dX4_saysLine_60 (by decide) (fun c60 => ?_) (fun c60 => ?_)
    · have hw := hw.1 c60
      exact w_X4_saysLine_84 HE hr f0 hw
    · have hw := hw.2 c60
      refine x_iload_n HE 2 dX4_saysLine_63 rfl rfl ?_
      refine x_aload_n HE 0 dX4_saysLine_64 rfl rfl ?_
      refine x_gR HE dX4_saysLine_65 fd_X4_16 q1853 (Or.inl rfl) (Lay_X4.tag (f0.ext (EB.tr (E28.tr (E31.tr (E40.tr (E43.tr (E48.tr E52)))))))) (Lay_X4_16 (f0.ext (EB.tr (E28.tr (E31.tr (E40.tr (E43.tr (E48.tr E52)))))))).1 ?_
      refine x_iload_n HE 1 dX4_saysLine_68 rfl rfl ?_
      refine x_iconst HE dX4_saysLine_69 (by decide) ?_
      obtain ⟨v70, hw⟩ := hw
      refine x_iadd HE dX4_saysLine_70 v70 ?_
      obtain ⟨i71, hw⟩ := hw
      refine x_iald HE dX4_saysLine_71 (t := 1) (by decide) ((Lay_X4_16 (f0.ext (EB.tr (E28.tr (E31.tr (E40.tr (E43.tr (E48.tr E52)))))))).2.1) (ix_of ((Lay_X4_16 (f0.ext (EB.tr (E28.tr (E31.tr (E40.tr (E43.tr (E48.tr E52)))))))).2.2) i71) rfl ?_
      refine x_ic_ne HE 84 dX4_saysLine_72 (by decide) (fun c72 => ?_) (fun c72 => ?_)
      · have hw := hw.1 c72
        exact w_X4_saysLine_84 HE hr f0 hw
      · have hw := hw.2 c72
        refine x_aload_n HE 0 dX4_saysLine_75 rfl rfl ?_
        refine x_iconst HE dX4_saysLine_76 (by decide) ?_
        refine x_aload_n HE 0 dX4_saysLine_77 rfl rfl ?_
        refine x_gI HE dX4_saysLine_78 fd_X4_4 q1841 (Or.inl rfl) (Lay_X4.tag (f0.ext (EB.tr (E28.tr (E31.tr (E40.tr (E43.tr (E48.tr E52)))))))) rfl ?_
        refine x_callV HE dX4_saysLine_81 rfl (fun l => k_X4_wrong (f0.ext (EB.tr (E28.tr (E31.tr (E40.tr (E43.tr (E48.tr E52))))))) l hw) (As := [iV 3, iV (hF m52 x0 4)]) (rest := []) rfl xc10 (Lay_X4.tag (f0.ext (EB.tr (E28.tr (E31.tr (E40.tr (E43.tr (E48.tr E52)))))))) (lw_V q2012 q2014 qs62 q129 q2015) hy_X4_wrong rfl rfl (Nat.le_of_ble_eq_true rfl) (Nat.le_of_ble_eq_true rfl) (Nat.le_of_ble_eq_true rfl) (kkV (fun m81 E81 hw => ?_))
        have hw := hw E81
        exact w_X4_saysLine_84 HE hr f0 hw
  · have hw := hw.2 c4
    exact x_vret HE hr dX4_saysLine_7 hw
theorem k_X4_saysLine {G : GT} {x0 : Int} {Q : Hp → Prop} {h : Hp} (f0 : Lay_X4 h x0) (l : Launch) (hw : g_X4_saysLine x0 Q h) : XM G l yX4_saysLine cX4_saysLine 3 none 9 193 [rV x0] (QV Q) h :=
  XM.of (by decide) (Nat.le_of_ble_eq_true rfl) (fun X HE hr hn => w_X4_saysLine_0 HE hr f0 hw)
def g_X4_readLine_b169 (x0 : Int) (Q : Hp → Prop) (h : Hp) : Prop :=
  Q h
theorem w_X4_readLine_169 {G : GT} {X : ET} {h0 : Hp} {x0 : Int} (HE : XE G X cX4_readLine 1 RX4 10 215 h0) (hr : XR X none) (f0 : Lay_X4 h0 x0) {Q : Hp → Prop} {h : Hp} (hw : g_X4_readLine_b169 x0 Q  h) : Wx G X h0 (QV Q) h 169 [some (rV x0)] [] := by
  refine Wx.start (fun EB => ?_)
  unfold g_X4_readLine_b169 at hw
  exact x_vret HE hr dX4_readLine_169 hw
def g_X4_readLine_b147 (x0 : Int) (Q : Hp → Prop) (s0 s1 s2 : Int) (h : Hp) : Prop :=
  (Lay_X4 h s0) ∧ (g_X4_begins s0 s1 s2 (fun r147 m147 => Ext h m147 → (((r147 = 0) → (g_X4_wrong x0 1 (hF m147 x0 4) (fun m166 => Ext m147 m166 → (g_X4_readLine_b169 x0 Q m166)) m147)) ∧ ((r147 ≠ 0) → (g_X4_saysLine x0 (fun m154 => Ext m147 m154 → (g_X4_readLine_b169 x0 Q m154)) m147)))) h)
theorem w_X4_readLine_147 {G : GT} {X : ET} {h0 : Hp} {x0 : Int} (HE : XE G X cX4_readLine 1 RX4 10 215 h0) (hr : XR X none) (f0 : Lay_X4 h0 x0) {Q : Hp → Prop} {s0 s1 s2 : Int} {h : Hp} (hw : g_X4_readLine_b147 x0 Q s0 s1 s2 h) : Wx G X h0 (QV Q) h 147 [some (rV x0)] [iV s2, rV s1, rV s0] := by
  refine Wx.start (fun EB => ?_)
  unfold g_X4_readLine_b147 at hw
  obtain ⟨u147_0, hw⟩ := hw
  refine x_callV HE dX4_readLine_147 rfl (fun l => k_X4_begins u147_0 l hw) (As := [rV s1, iV s2]) (rest := []) rfl xc10 (Lay_X4.tag u147_0) (lw_V q2035 q2037 qs67 q129 q2038) hy_X4_begins rfl rfl (Nat.le_of_ble_eq_true rfl) (Nat.le_of_ble_eq_true rfl) (Nat.le_of_ble_eq_true rfl) (kkI (fun r147 m147 E147 hw => ?_))
  have hw := hw E147
  refine x_if_eq HE 160 dX4_readLine_150 (by decide) (fun c150 => ?_) (fun c150 => ?_)
  · have hw := hw.1 c150
    refine x_aload_n HE 0 dX4_readLine_160 rfl rfl ?_
    refine x_iconst HE dX4_readLine_161 (by decide) ?_
    refine x_aload_n HE 0 dX4_readLine_162 rfl rfl ?_
    refine x_gI HE dX4_readLine_163 fd_X4_4 q1841 (Or.inl rfl) (Lay_X4.tag (f0.ext (EB.tr E147))) rfl ?_
    refine x_callV HE dX4_readLine_166 rfl (fun l => k_X4_wrong (f0.ext (EB.tr E147)) l hw) (As := [iV 1, iV (hF m147 x0 4)]) (rest := []) rfl xc10 (Lay_X4.tag (f0.ext (EB.tr E147))) (lw_V q2012 q2014 qs62 q129 q2015) hy_X4_wrong rfl rfl (Nat.le_of_ble_eq_true rfl) (Nat.le_of_ble_eq_true rfl) (Nat.le_of_ble_eq_true rfl) (kkV (fun m166 E166 hw => ?_))
    have hw := hw E166
    exact w_X4_readLine_169 HE hr f0 hw
  · have hw := hw.2 c150
    refine x_aload_n HE 0 dX4_readLine_153 rfl rfl ?_
    refine x_callV HE dX4_readLine_154 rfl (fun l => k_X4_saysLine (f0.ext (EB.tr E147)) l hw) (As := []) (rest := []) rfl xc10 (Lay_X4.tag (f0.ext (EB.tr E147))) (lw_V q2104 q2106 qs78 q129 q2107) hy_X4_saysLine rfl rfl (Nat.le_of_ble_eq_true rfl) (Nat.le_of_ble_eq_true rfl) (Nat.le_of_ble_eq_true rfl) (kkV (fun m154 E154 hw => ?_))
    have hw := hw E154
    refine x_goto HE 169 dX4_readLine_157 (by decide) ?_
    exact w_X4_readLine_169 HE hr f0 hw
def g_X4_readLine_b97 (x0 : Int) (Q : Hp → Prop) (s0 s1 s2 : Int) (h : Hp) : Prop :=
  (Lay_X4 h s0) ∧ (g_X4_begins s0 s1 s2 (fun r97 m97 => Ext h m97 → (((r97 = 0) → (g_X4_begins x0 (hF m97 0 8) 1 (fun r114 m114 => Ext m97 m114 → (((r114 = 0) → (((8 ≤ (hA m114 (x0 + 4) 7)) → (g_X4_readLine_b147 x0 Q x0 (hF m114 0 9) 0 m114)) ∧ (((hA m114 (x0 + 4) 7) < 8) → (g_X4_readLine_b147 x0 Q x0 (hF m114 0 9) 1 m114)))) ∧ ((r114 ≠ 0) → (g_X4_shelfLine x0 (fun m121 => Ext m114 m121 → (g_X4_readLine_b169 x0 Q m121)) m114)))) m97)) ∧ ((r97 ≠ 0) → (g_X4_personLine x0 (fun m104 => Ext m97 m104 → (g_X4_readLine_b169 x0 Q m104)) m97)))) h)
theorem w_X4_readLine_97 {G : GT} {X : ET} {h0 : Hp} {x0 : Int} (HE : XE G X cX4_readLine 1 RX4 10 215 h0) (hr : XR X none) (f0 : Lay_X4 h0 x0) {Q : Hp → Prop} {s0 s1 s2 : Int} {h : Hp} (hw : g_X4_readLine_b97 x0 Q s0 s1 s2 h) : Wx G X h0 (QV Q) h 97 [some (rV x0)] [iV s2, rV s1, rV s0] := by
  refine Wx.start (fun EB => ?_)
  unfold g_X4_readLine_b97 at hw
  obtain ⟨u97_0, hw⟩ := hw
  refine x_callV HE dX4_readLine_97 rfl (fun l => k_X4_begins u97_0 l hw) (As := [rV s1, iV s2]) (rest := []) rfl xc10 (Lay_X4.tag u97_0) (lw_V q2035 q2037 qs67 q129 q2038) hy_X4_begins rfl rfl (Nat.le_of_ble_eq_true rfl) (Nat.le_of_ble_eq_true rfl) (Nat.le_of_ble_eq_true rfl) (kkI (fun r97 m97 E97 hw => ?_))
  have hw := hw E97
  refine x_if_eq HE 110 dX4_readLine_100 (by decide) (fun c100 => ?_) (fun c100 => ?_)
  · have hw := hw.1 c100
    refine x_aload_n HE 0 dX4_readLine_110 rfl rfl ?_
    refine x_ldcS (k := 7) HE dX4_readLine_111 (List.mem_of_getElem? (i := 45) rfl) (fun hp111 => ?_)
    refine x_iconst HE dX4_readLine_113 (by decide) ?_
    refine x_callV HE dX4_readLine_114 rfl (fun l => k_X4_begins (f0.ext (EB.tr E97)) l hw) (As := [rV (hF m97 0 8), iV 1]) (rest := []) rfl xc10 (Lay_X4.tag (f0.ext (EB.tr E97))) (lw_V q2035 q2037 qs67 q129 q2038) hy_X4_begins rfl rfl (Nat.le_of_ble_eq_true rfl) (Nat.le_of_ble_eq_true rfl) (Nat.le_of_ble_eq_true rfl) (kkI (fun r114 m114 E114 hw => ?_))
    have hw := hw E114
    refine x_if_eq HE 127 dX4_readLine_117 (by decide) (fun c117 => ?_) (fun c117 => ?_)
    · have hw := hw.1 c117
      refine x_aload_n HE 0 dX4_readLine_127 rfl rfl ?_
      refine x_ldcS (k := 8) HE dX4_readLine_128 (List.mem_of_getElem? (i := 46) rfl) (fun hp128 => ?_)
      refine x_aload_n HE 0 dX4_readLine_130 rfl rfl ?_
      refine x_gR HE dX4_readLine_131 fd_X4_16 q1853 (Or.inl rfl) (Lay_X4.tag (f0.ext (EB.tr (E97.tr E114)))) (Lay_X4_16 (f0.ext (EB.tr (E97.tr E114)))).1 ?_
      refine x_bipush HE dX4_readLine_134 (by decide) ?_
      refine x_iald HE dX4_readLine_136 (t := 1) (by decide) ((Lay_X4_16 (f0.ext (EB.tr (E97.tr E114)))).2.1) (ix_of ((Lay_X4_16 (f0.ext (EB.tr (E97.tr E114)))).2.2) (by decide)) rfl ?_
      refine x_bipush HE dX4_readLine_137 (by decide) ?_
      refine x_ic_ge HE 146 dX4_readLine_139 (by decide) (fun c139 => ?_) (fun c139 => ?_)
      · have hw := hw.1 c139
        refine x_iconst HE dX4_readLine_146 (by decide) ?_
        exact w_X4_readLine_147 HE hr f0 hw
      · have hw := hw.2 c139
        refine x_iconst HE dX4_readLine_142 (by decide) ?_
        refine x_goto HE 147 dX4_readLine_143 (by decide) ?_
        exact w_X4_readLine_147 HE hr f0 hw
    · have hw := hw.2 c117
      refine x_aload_n HE 0 dX4_readLine_120 rfl rfl ?_
      refine x_callV HE dX4_readLine_121 rfl (fun l => k_X4_shelfLine (f0.ext (EB.tr (E97.tr E114))) l hw) (As := []) (rest := []) rfl xc10 (Lay_X4.tag (f0.ext (EB.tr (E97.tr E114)))) (lw_V q2095 q2097 qs76 q129 q2098) hy_X4_shelfLine rfl rfl (Nat.le_of_ble_eq_true rfl) (Nat.le_of_ble_eq_true rfl) (Nat.le_of_ble_eq_true rfl) (kkV (fun m121 E121 hw => ?_))
      have hw := hw E121
      refine x_goto HE 169 dX4_readLine_124 (by decide) ?_
      exact w_X4_readLine_169 HE hr f0 hw
  · have hw := hw.2 c100
    refine x_aload_n HE 0 dX4_readLine_103 rfl rfl ?_
    refine x_callV HE dX4_readLine_104 rfl (fun l => k_X4_personLine (f0.ext (EB.tr E97)) l hw) (As := []) (rest := []) rfl xc10 (Lay_X4.tag (f0.ext (EB.tr E97))) (lw_V q2076 q2078 qs73 q129 q2079) hy_X4_personLine rfl rfl (Nat.le_of_ble_eq_true rfl) (Nat.le_of_ble_eq_true rfl) (Nat.le_of_ble_eq_true rfl) (kkV (fun m104 E104 hw => ?_))
    have hw := hw E104
    refine x_goto HE 169 dX4_readLine_107 (by decide) ?_
    exact w_X4_readLine_169 HE hr f0 hw
def g_X4_readLine_b65 (x0 : Int) (Q : Hp → Prop) (s0 s1 s2 : Int) (h : Hp) : Prop :=
  (Lay_X4 h s0) ∧ (g_X4_begins s0 s1 s2 (fun r65 m65 => Ext h m65 → (((r65 = 0) → (((10 ≤ (hA m65 (x0 + 4) 5)) → (g_X4_readLine_b97 x0 Q x0 (hF m65 0 7) 0 m65)) ∧ (((hA m65 (x0 + 4) 5) < 10) → (g_X4_readLine_b97 x0 Q x0 (hF m65 0 7) 1 m65)))) ∧ ((r65 ≠ 0) → (g_X4_staffLine x0 (fun m72 => Ext m65 m72 → (g_X4_readLine_b169 x0 Q m72)) m65)))) h)
theorem w_X4_readLine_65 {G : GT} {X : ET} {h0 : Hp} {x0 : Int} (HE : XE G X cX4_readLine 1 RX4 10 215 h0) (hr : XR X none) (f0 : Lay_X4 h0 x0) {Q : Hp → Prop} {s0 s1 s2 : Int} {h : Hp} (hw : g_X4_readLine_b65 x0 Q s0 s1 s2 h) : Wx G X h0 (QV Q) h 65 [some (rV x0)] [iV s2, rV s1, rV s0] := by
  refine Wx.start (fun EB => ?_)
  unfold g_X4_readLine_b65 at hw
  obtain ⟨u65_0, hw⟩ := hw
  refine x_callV HE dX4_readLine_65 rfl (fun l => k_X4_begins u65_0 l hw) (As := [rV s1, iV s2]) (rest := []) rfl xc10 (Lay_X4.tag u65_0) (lw_V q2035 q2037 qs67 q129 q2038) hy_X4_begins rfl rfl (Nat.le_of_ble_eq_true rfl) (Nat.le_of_ble_eq_true rfl) (Nat.le_of_ble_eq_true rfl) (kkI (fun r65 m65 E65 hw => ?_))
  have hw := hw E65
  refine x_if_eq HE 78 dX4_readLine_68 (by decide) (fun c68 => ?_) (fun c68 => ?_)
  · have hw := hw.1 c68
    refine x_aload_n HE 0 dX4_readLine_78 rfl rfl ?_
    refine x_ldcS (k := 6) HE dX4_readLine_79 (List.mem_of_getElem? (i := 44) rfl) (fun hp79 => ?_)
    refine x_aload_n HE 0 dX4_readLine_81 rfl rfl ?_
    refine x_gR HE dX4_readLine_82 fd_X4_16 q1853 (Or.inl rfl) (Lay_X4.tag (f0.ext (EB.tr E65))) (Lay_X4_16 (f0.ext (EB.tr E65))).1 ?_
    refine x_iconst HE dX4_readLine_85 (by decide) ?_
    refine x_iald HE dX4_readLine_86 (t := 1) (by decide) ((Lay_X4_16 (f0.ext (EB.tr E65))).2.1) (ix_of ((Lay_X4_16 (f0.ext (EB.tr E65))).2.2) (by decide)) rfl ?_
    refine x_bipush HE dX4_readLine_87 (by decide) ?_
    refine x_ic_ge HE 96 dX4_readLine_89 (by decide) (fun c89 => ?_) (fun c89 => ?_)
    · have hw := hw.1 c89
      refine x_iconst HE dX4_readLine_96 (by decide) ?_
      exact w_X4_readLine_97 HE hr f0 hw
    · have hw := hw.2 c89
      refine x_iconst HE dX4_readLine_92 (by decide) ?_
      refine x_goto HE 97 dX4_readLine_93 (by decide) ?_
      exact w_X4_readLine_97 HE hr f0 hw
  · have hw := hw.2 c68
    refine x_aload_n HE 0 dX4_readLine_71 rfl rfl ?_
    refine x_callV HE dX4_readLine_72 rfl (fun l => k_X4_staffLine (f0.ext (EB.tr E65)) l hw) (As := []) (rest := []) rfl xc10 (Lay_X4.tag (f0.ext (EB.tr E65))) (lw_V q2062 q2064 qs72 q129 q2065) hy_X4_staffLine rfl rfl (Nat.le_of_ble_eq_true rfl) (Nat.le_of_ble_eq_true rfl) (Nat.le_of_ble_eq_true rfl) (kkV (fun m72 E72 hw => ?_))
    have hw := hw E72
    refine x_goto HE 169 dX4_readLine_75 (by decide) ?_
    exact w_X4_readLine_169 HE hr f0 hw
def g_X4_readLine_b34 (x0 : Int) (Q : Hp → Prop) (s0 s1 s2 : Int) (h : Hp) : Prop :=
  (Lay_X4 h s0) ∧ (g_X4_begins s0 s1 s2 (fun r34 m34 => Ext h m34 → (((r34 = 0) → (((3 ≤ (hA m34 (x0 + 4) 4)) → (g_X4_readLine_b65 x0 Q x0 (hF m34 0 6) 0 m34)) ∧ (((hA m34 (x0 + 4) 4) < 3) → (g_X4_readLine_b65 x0 Q x0 (hF m34 0 6) 1 m34)))) ∧ ((r34 ≠ 0) → (g_X4_drinkLine x0 (fun m41 => Ext m34 m41 → (g_X4_readLine_b169 x0 Q m41)) m34)))) h)
theorem w_X4_readLine_34 {G : GT} {X : ET} {h0 : Hp} {x0 : Int} (HE : XE G X cX4_readLine 1 RX4 10 215 h0) (hr : XR X none) (f0 : Lay_X4 h0 x0) {Q : Hp → Prop} {s0 s1 s2 : Int} {h : Hp} (hw : g_X4_readLine_b34 x0 Q s0 s1 s2 h) : Wx G X h0 (QV Q) h 34 [some (rV x0)] [iV s2, rV s1, rV s0] := by
  refine Wx.start (fun EB => ?_)
  unfold g_X4_readLine_b34 at hw
  obtain ⟨u34_0, hw⟩ := hw
  refine x_callV HE dX4_readLine_34 rfl (fun l => k_X4_begins u34_0 l hw) (As := [rV s1, iV s2]) (rest := []) rfl xc10 (Lay_X4.tag u34_0) (lw_V q2035 q2037 qs67 q129 q2038) hy_X4_begins rfl rfl (Nat.le_of_ble_eq_true rfl) (Nat.le_of_ble_eq_true rfl) (Nat.le_of_ble_eq_true rfl) (kkI (fun r34 m34 E34 hw => ?_))
  have hw := hw E34
  refine x_if_eq HE 47 dX4_readLine_37 (by decide) (fun c37 => ?_) (fun c37 => ?_)
  · have hw := hw.1 c37
    refine x_aload_n HE 0 dX4_readLine_47 rfl rfl ?_
    refine x_ldcS (k := 5) HE dX4_readLine_48 (List.mem_of_getElem? (i := 43) rfl) (fun hp48 => ?_)
    refine x_aload_n HE 0 dX4_readLine_50 rfl rfl ?_
    refine x_gR HE dX4_readLine_51 fd_X4_16 q1853 (Or.inl rfl) (Lay_X4.tag (f0.ext (EB.tr E34))) (Lay_X4_16 (f0.ext (EB.tr E34))).1 ?_
    refine x_iconst HE dX4_readLine_54 (by decide) ?_
    refine x_iald HE dX4_readLine_55 (t := 1) (by decide) ((Lay_X4_16 (f0.ext (EB.tr E34))).2.1) (ix_of ((Lay_X4_16 (f0.ext (EB.tr E34))).2.2) (by decide)) rfl ?_
    refine x_iconst HE dX4_readLine_56 (by decide) ?_
    refine x_ic_ge HE 64 dX4_readLine_57 (by decide) (fun c57 => ?_) (fun c57 => ?_)
    · have hw := hw.1 c57
      refine x_iconst HE dX4_readLine_64 (by decide) ?_
      exact w_X4_readLine_65 HE hr f0 hw
    · have hw := hw.2 c57
      refine x_iconst HE dX4_readLine_60 (by decide) ?_
      refine x_goto HE 65 dX4_readLine_61 (by decide) ?_
      exact w_X4_readLine_65 HE hr f0 hw
  · have hw := hw.2 c37
    refine x_aload_n HE 0 dX4_readLine_40 rfl rfl ?_
    refine x_callV HE dX4_readLine_41 rfl (fun l => k_X4_drinkLine (f0.ext (EB.tr E34)) l hw) (As := []) (rest := []) rfl xc10 (Lay_X4.tag (f0.ext (EB.tr E34))) (lw_V q2039 q2041 qs68 q129 q2042) hy_X4_drinkLine rfl rfl (Nat.le_of_ble_eq_true rfl) (Nat.le_of_ble_eq_true rfl) (Nat.le_of_ble_eq_true rfl) (kkV (fun m41 E41 hw => ?_))
    have hw := hw E41
    refine x_goto HE 169 dX4_readLine_44 (by decide) ?_
    exact w_X4_readLine_169 HE hr f0 hw
def g_X4_readLine (x0 : Int) (Q : Hp → Prop) (h : Hp) : Prop :=
  g_X4_isWord x0 (hF h 0 2) (fun r3 m3 => Ext h m3 → (((r3 = 0) → (((5 ≤ (hA m3 (x0 + 4) 3)) → (g_X4_readLine_b34 x0 Q x0 (hF m3 0 5) 0 m3)) ∧ (((hA m3 (x0 + 4) 3) < 5) → (g_X4_readLine_b34 x0 Q x0 (hF m3 0 5) 1 m3)))) ∧ ((r3 ≠ 0) → (g_X4_houseLine x0 (fun m10 => Ext m3 m10 → (g_X4_readLine_b169 x0 Q m10)) m3)))) h
theorem w_X4_readLine_0 {G : GT} {X : ET} {h0 : Hp} {x0 : Int} (HE : XE G X cX4_readLine 1 RX4 10 215 h0) (hr : XR X none) (f0 : Lay_X4 h0 x0) {Q : Hp → Prop} {h : Hp} (hw : g_X4_readLine x0 Q h) : Wx G X h0 (QV Q) h 0 [some (rV x0)] [] := by
  refine Wx.start (fun EB => ?_)
  unfold g_X4_readLine at hw
  refine x_aload_n HE 0 dX4_readLine_0 rfl rfl ?_
  refine x_ldcS (k := 1) HE dX4_readLine_1 (List.mem_of_getElem? (i := 39) rfl) (fun hp1 => ?_)
  refine x_callV HE dX4_readLine_3 rfl (fun l => k_X4_isWord (f0.ext EB) l hw) (As := [rV (hF h 0 2)]) (rest := []) rfl xc10 (Lay_X4.tag (f0.ext EB)) (lw_V q1985 q1987 qs60 q129 q1988) hy_X4_isWord rfl rfl (Nat.le_of_ble_eq_true rfl) (Nat.le_of_ble_eq_true rfl) (Nat.le_of_ble_eq_true rfl) (kkI (fun r3 m3 E3 hw => ?_))
  have hw := hw E3
  refine x_if_eq HE 16 dX4_readLine_6 (by decide) (fun c6 => ?_) (fun c6 => ?_)
  · have hw := hw.1 c6
    refine x_aload_n HE 0 dX4_readLine_16 rfl rfl ?_
    refine x_ldcS (k := 4) HE dX4_readLine_17 (List.mem_of_getElem? (i := 42) rfl) (fun hp17 => ?_)
    refine x_aload_n HE 0 dX4_readLine_19 rfl rfl ?_
    refine x_gR HE dX4_readLine_20 fd_X4_16 q1853 (Or.inl rfl) (Lay_X4.tag (f0.ext (EB.tr E3))) (Lay_X4_16 (f0.ext (EB.tr E3))).1 ?_
    refine x_iconst HE dX4_readLine_23 (by decide) ?_
    refine x_iald HE dX4_readLine_24 (t := 1) (by decide) ((Lay_X4_16 (f0.ext (EB.tr E3))).2.1) (ix_of ((Lay_X4_16 (f0.ext (EB.tr E3))).2.2) (by decide)) rfl ?_
    refine x_iconst HE dX4_readLine_25 (by decide) ?_
    refine x_ic_ge HE 33 dX4_readLine_26 (by decide) (fun c26 => ?_) (fun c26 => ?_)
    · have hw := hw.1 c26
      refine x_iconst HE dX4_readLine_33 (by decide) ?_
      exact w_X4_readLine_34 HE hr f0 hw
    · have hw := hw.2 c26
      refine x_iconst HE dX4_readLine_29 (by decide) ?_
      refine x_goto HE 34 dX4_readLine_30 (by decide) ?_
      exact w_X4_readLine_34 HE hr f0 hw
  · have hw := hw.2 c6
    refine x_aload_n HE 0 dX4_readLine_9 rfl rfl ?_
    refine x_callV HE dX4_readLine_10 rfl (fun l => k_X4_houseLine (f0.ext (EB.tr E3)) l hw) (As := []) (rest := []) rfl xc10 (Lay_X4.tag (f0.ext (EB.tr E3))) (lw_V q2008 q2010 qs61 q129 q2011) hy_X4_houseLine rfl rfl (Nat.le_of_ble_eq_true rfl) (Nat.le_of_ble_eq_true rfl) (Nat.le_of_ble_eq_true rfl) (kkV (fun m10 E10 hw => ?_))
    have hw := hw E10
    refine x_goto HE 169 dX4_readLine_13 (by decide) ?_
    exact w_X4_readLine_169 HE hr f0 hw
theorem k_X4_readLine {G : GT} {x0 : Int} {Q : Hp → Prop} {h : Hp} (f0 : Lay_X4 h x0) (l : Launch) (hw : g_X4_readLine x0 Q h) : XM G l yX4_readLine cX4_readLine 1 none 10 215 [rV x0] (QV Q) h :=
  XM.of (by decide) (Nat.le_of_ble_eq_true rfl) (fun X HE hr hn => w_X4_readLine_0 HE hr f0 hw)
