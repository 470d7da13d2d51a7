/-- look(I)I -/
def m_look (μ : Mem) (x1 : Int32) : Option (Int32 × Mem) :=
  nm (up2 μ 0 0 (nI 0)) fun μ1 =>
  if x1 = 0 then
  some ((μ1 6 0), μ1)
  else
  if x1 = (nI 1) then
  (rd μ1 1 115 (nI 3)).bind fun v10 =>
  some (v10, μ1)
  else
  if x1 = (nI 2) then
  (rd μ1 1 115 (nI 4)).bind fun v9 =>
  some (v9, μ1)
  else
  if x1 = (nI 3) then
  (rd μ1 1 115 (nI 5)).bind fun v8 =>
  some (v8, μ1)
  else
  if x1 = (nI 4) then
  (rd μ1 1 115 (nI 6)).bind fun v7 =>
  some (v7, μ1)
  else
  if x1 = (nI 5) then
  (rd μ1 1 115 (nI 0)).bind fun v6 =>
  some (v6, μ1)
  else
  if x1 = (nI 6) then
  (m_standingSet μ1).bind fun r5 =>
  some (r5, μ1)
  else
  if x1 = (nI 7) then
  (rd μ1 1 115 (nI 2)).bind fun v4 =>
  some (v4, μ1)
  else
  if x1 = (nI 8) then
  (rd μ1 1 115 (nI 1)).bind fun v3 =>
  some (v3, μ1)
  else
  if x1 = (nI 9) then
  (rd μ1 17 2 (nI 0)).bind fun v2 =>
  some (v2, μ1)
  else
  if x1 = (nI 10) then
  some ((μ1 33 0), μ1)
  else
  if x1 = (nI 11) then
  some ((μ1 35 0), μ1)
  else
  if x1 = (nI 12) then
  some ((μ1 37 0), μ1)
  else
  if x1 = (nI 13) then
  some ((μ1 3 0), μ1)
  else
  some ((-1 : Int32), μ1)
theorem wd_look : yX4_look.cls = RX4 ∧ yX4_look.cls ≠ "java/lang/invoke/MethodHandle" ∧ yX4_look.cls ≠ "java/lang/invoke/VarHandle" ∧ (parseMethodDescriptor yX4_look.desc).map (fun d => d.parameters.length) = some 1 := by decide +kernel
set_option maxRecDepth 100000 in
theorem ct_look (μ : Mem) (x1 : Int32) : CtM yX4_look cX4_look 2 (some .int) 4 86 [.int x1] μ (fun r => (some (.int r.1), r.2)) (m_look μ x1) := by
  refine CtM.of (by decide) rfl (fun _ => Nat.le_of_ble_eq_true rfl) ?_
  intro l D cl ci cA am p e s m args below meth c hcl K hr hlk hK
  refine g_sub (ls' := [(0, .ref am), (1, .int x1)]) [0, 1] rfl ?_
  unfold m_look
  refine g_aloadn K 0 rfl rfl 1 dX4_look_0 rfl ?_
  refine g_iconst K (nI 0) ic_0 2 dX4_look_1 rfl ?_
  refine gm_put K hK hcl 0 (ty := .int) 5 (by decide) q1485 rfl (by decide +kernel) rfl rfl rfl dX4_look_2 rfl (fun μ1 _ => ?_)
  refine g_iloadn K 1 rfl rfl 6 dX4_look_5 rfl ?_
  refine g_if_ne K 9 14 dX4_look_6 rfl (by decide) (fun _ => ?_) (fun _ => ?_)
  · refine g_aloadn K 0 rfl rfl 10 dX4_look_9 rfl ?_
    refine gm_get K hK hcl 6 13 (by decide) q1491 rfl dX4_look_10 rfl ?_
    exact gm_iret K hK hcl hr hlk dX4_look_13 rfl
  · refine g_iloadn K 1 rfl rfl 15 dX4_look_14 rfl ?_
    refine g_iconst K (nI 1) ic_1 16 dX4_look_15 rfl ?_
    refine g_icmp_ne K 19 26 dX4_look_16 rfl (by decide) (fun _ => ?_) (fun _ => ?_)
    · refine g_aloadn K 0 rfl rfl 20 dX4_look_19 rfl ?_
      refine gm_get K hK hcl 1 23 (by decide) q1486 rfl dX4_look_20 rfl ?_
      refine g_iconst K (nI 3) ic_3 24 dX4_look_23 rfl ?_
      refine gm_ald K hK hcl 1 1 115 25 rfl dX4_look_24 rfl (fun v10 _ => ?_)
      exact gm_iret K hK hcl hr hlk dX4_look_25 rfl
    · refine g_iloadn K 1 rfl rfl 27 dX4_look_26 rfl ?_
      refine g_iconst K (nI 2) ic_2 28 dX4_look_27 rfl ?_
      refine g_icmp_ne K 31 38 dX4_look_28 rfl (by decide) (fun _ => ?_) (fun _ => ?_)
      · refine g_aloadn K 0 rfl rfl 32 dX4_look_31 rfl ?_
        refine gm_get K hK hcl 1 35 (by decide) q1486 rfl dX4_look_32 rfl ?_
        refine g_iconst K (nI 4) ic_4 36 dX4_look_35 rfl ?_
        refine gm_ald K hK hcl 1 1 115 37 rfl dX4_look_36 rfl (fun v9 _ => ?_)
        exact gm_iret K hK hcl hr hlk dX4_look_37 rfl
      · refine g_iloadn K 1 rfl rfl 39 dX4_look_38 rfl ?_
        refine g_iconst K (nI 3) ic_3 40 dX4_look_39 rfl ?_
        refine g_icmp_ne K 43 50 dX4_look_40 rfl (by decide) (fun _ => ?_) (fun _ => ?_)
        · refine g_aloadn K 0 rfl rfl 44 dX4_look_43 rfl ?_
          refine gm_get K hK hcl 1 47 (by decide) q1486 rfl dX4_look_44 rfl ?_
          refine g_iconst K (nI 5) ic_5 48 dX4_look_47 rfl ?_
          refine gm_ald K hK hcl 1 1 115 49 rfl dX4_look_48 rfl (fun v8 _ => ?_)
          exact gm_iret K hK hcl hr hlk dX4_look_49 rfl
        · refine g_iloadn K 1 rfl rfl 51 dX4_look_50 rfl ?_
          refine g_iconst K (nI 4) ic_4 52 dX4_look_51 rfl ?_
          refine g_icmp_ne K 55 63 dX4_look_52 rfl (by decide) (fun _ => ?_) (fun _ => ?_)
          · refine g_aloadn K 0 rfl rfl 56 dX4_look_55 rfl ?_
            refine gm_get K hK hcl 1 59 (by decide) q1486 rfl dX4_look_56 rfl ?_
            refine g_bipush K (nI 6) bp_6 61 dX4_look_59 rfl ?_
            refine gm_ald K hK hcl 1 1 115 62 rfl dX4_look_61 rfl (fun v7 _ => ?_)
            exact gm_iret K hK hcl hr hlk dX4_look_62 rfl
          · refine g_iloadn K 1 rfl rfl 64 dX4_look_63 rfl ?_
            refine g_iconst K (nI 5) ic_5 65 dX4_look_64 rfl ?_
            refine g_icmp_ne K 68 75 dX4_look_65 rfl (by decide) (fun _ => ?_) (fun _ => ?_)
            · refine g_aloadn K 0 rfl rfl 69 dX4_look_68 rfl ?_
              refine gm_get K hK hcl 1 72 (by decide) q1486 rfl dX4_look_69 rfl ?_
              refine g_iconst K (nI 0) ic_0 73 dX4_look_72 rfl ?_
              refine gm_ald K hK hcl 1 1 115 74 rfl dX4_look_73 rfl (fun v6 _ => ?_)
              exact gm_iret K hK hcl hr hlk dX4_look_74 rfl
            · refine g_iloadn K 1 rfl rfl 76 dX4_look_75 rfl ?_
              refine g_bipush K (nI 6) bp_6 78 dX4_look_76 rfl ?_
              refine g_icmp_ne K 81 86 dX4_look_78 rfl (by decide) (fun _ => ?_) (fun _ => ?_)
              · refine g_aloadn K 0 rfl rfl 82 dX4_look_81 rfl ?_
                refine gm_call K hK hcl 85 (ct_standingSet μ1) (lw_V q1971 q1973 qs110 q158 q1974) wd_standingSet (by decide) rfl (Nat.le_of_ble_eq_true rfl) dX4_look_82 rfl (fun r5 _ => ?_)
                exact gm_iret K hK hcl hr hlk dX4_look_85 rfl
              · refine g_iloadn K 1 rfl rfl 87 dX4_look_86 rfl ?_
                refine g_bipush K (nI 7) bp_7 89 dX4_look_87 rfl ?_
                refine g_icmp_ne K 92 99 dX4_look_89 rfl (by decide) (fun _ => ?_) (fun _ => ?_)
                · refine g_aloadn K 0 rfl rfl 93 dX4_look_92 rfl ?_
                  refine gm_get K hK hcl 1 96 (by decide) q1486 rfl dX4_look_93 rfl ?_
                  refine g_iconst K (nI 2) ic_2 97 dX4_look_96 rfl ?_
                  refine gm_ald K hK hcl 1 1 115 98 rfl dX4_look_97 rfl (fun v4 _ => ?_)
                  exact gm_iret K hK hcl hr hlk dX4_look_98 rfl
                · refine g_iloadn K 1 rfl rfl 100 dX4_look_99 rfl ?_
                  refine g_bipush K (nI 8) bp_8 102 dX4_look_100 rfl ?_
                  refine g_icmp_ne K 105 112 dX4_look_102 rfl (by decide) (fun _ => ?_) (fun _ => ?_)
                  · refine g_aloadn K 0 rfl rfl 106 dX4_look_105 rfl ?_
                    refine gm_get K hK hcl 1 109 (by decide) q1486 rfl dX4_look_106 rfl ?_
                    refine g_iconst K (nI 1) ic_1 110 dX4_look_109 rfl ?_
                    refine gm_ald K hK hcl 1 1 115 111 rfl dX4_look_110 rfl (fun v3 _ => ?_)
                    exact gm_iret K hK hcl hr hlk dX4_look_111 rfl
                  · refine g_iloadn K 1 rfl rfl 113 dX4_look_112 rfl ?_
                    refine g_bipush K (nI 9) bp_9 115 dX4_look_113 rfl ?_
                    refine g_icmp_ne K 118 125 dX4_look_115 rfl (by decide) (fun _ => ?_) (fun _ => ?_)
                    · refine g_aloadn K 0 rfl rfl 119 dX4_look_118 rfl ?_
                      refine gm_get K hK hcl 17 122 (by decide) q1502 rfl dX4_look_119 rfl ?_
                      refine g_iconst K (nI 0) ic_0 123 dX4_look_122 rfl ?_
                      refine gm_ald K hK hcl 17 9 2 124 rfl dX4_look_123 rfl (fun v2 _ => ?_)
                      exact gm_iret K hK hcl hr hlk dX4_look_124 rfl
                    · refine g_iloadn K 1 rfl rfl 126 dX4_look_125 rfl ?_
                      refine g_bipush K (nI 10) bp_10 128 dX4_look_126 rfl ?_
                      refine g_icmp_ne K 131 136 dX4_look_128 rfl (by decide) (fun _ => ?_) (fun _ => ?_)
                      · refine g_aloadn K 0 rfl rfl 132 dX4_look_131 rfl ?_
                        refine gm_get K hK hcl 33 135 (by decide) q1518 rfl dX4_look_132 rfl ?_
                        exact gm_iret K hK hcl hr hlk dX4_look_135 rfl
                      · refine g_iloadn K 1 rfl rfl 137 dX4_look_136 rfl ?_
                        refine g_bipush K (nI 11) bp_11 139 dX4_look_137 rfl ?_
                        refine g_icmp_ne K 142 147 dX4_look_139 rfl (by decide) (fun _ => ?_) (fun _ => ?_)
                        · refine g_aloadn K 0 rfl rfl 143 dX4_look_142 rfl ?_
                          refine gm_get K hK hcl 35 146 (by decide) q1520 rfl dX4_look_143 rfl ?_
                          exact gm_iret K hK hcl hr hlk dX4_look_146 rfl
                        · refine g_iloadn K 1 rfl rfl 148 dX4_look_147 rfl ?_
                          refine g_bipush K (nI 12) bp_12 150 dX4_look_148 rfl ?_
                          refine g_icmp_ne K 153 158 dX4_look_150 rfl (by decide) (fun _ => ?_) (fun _ => ?_)
                          · refine g_aloadn K 0 rfl rfl 154 dX4_look_153 rfl ?_
                            refine gm_get K hK hcl 37 157 (by decide) q1522 rfl dX4_look_154 rfl ?_
                            exact gm_iret K hK hcl hr hlk dX4_look_157 rfl
                          · refine g_iloadn K 1 rfl rfl 159 dX4_look_158 rfl ?_
                            refine g_bipush K (nI 13) bp_13 161 dX4_look_159 rfl ?_
                            refine g_icmp_ne K 164 171 dX4_look_161 rfl (by decide) (fun _ => ?_) (fun _ => ?_)
                            · refine g_aloadn K 0 rfl rfl 165 dX4_look_164 rfl ?_
                              refine gm_get K hK hcl 3 168 (by decide) q1488 rfl dX4_look_165 rfl ?_
                              refine g_goto K 172 dX4_look_168 (by decide) ?_
                              exact gm_iret K hK hcl hr hlk dX4_look_172 rfl
                            · refine g_iconst K (-1 : Int32) ic_m1 172 dX4_look_171 rfl ?_
                              exact gm_iret K hK hcl hr hlk dX4_look_172 rfl
