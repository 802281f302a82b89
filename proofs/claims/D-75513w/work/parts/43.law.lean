/-! THE LAW as a function (printed by gen/mklaw.py) -/
set_option maxRecDepth 100000
noncomputable def B_L_law_2924 (g : xm_G) (l0 : Option Nat) (l1 : Option Nat) (l2 : Option Nat) (l3 : Option Nat) (l4 : Option Nat) (l5 : Int32) (h : xm_H) (bc : Nat) (bs : Nat) (k28 : Int32 × xm_H × Nat × Nat → Prop) (Q : Int32 → xm_H → Prop) : Prop :=
 k28 ((l5 + 6), h, bc, bs)
noncomputable def B_L_law_260 (g : xm_G) (l0 : Option Nat) (l1 : Option Nat) (l2 : Option Nat) (l3 : Option Nat) (l4 : Option Nat) (l5 : Int32) (h : xm_H) (bc : Nat) (bs : Nat) (k28 : Int32 × xm_H × Nat × Nat → Prop) (Q : Int32 → xm_H → Prop) : Prop :=
 xt_b l0 (fun a30 =>
 xt_b (xh_ai .int h a30 (l5 + 1)) (fun v31 =>
 xt_b (xh_ai .int h a30 (l5 + 2)) (fun v32 =>
 xt_b (xh_ai .int h a30 (l5 + 3)) (fun v33 =>
 xt_b (xh_ai .int h a30 (l5 + 4)) (fun v34 =>
 xt_b (xh_ai .int h a30 (l5 + 5)) (fun v35 =>
 xt_b l1 (fun a36 =>
 xt_b (xh_is 0 h a36) (fun _ =>
 xt_b (F_X1_feed g a36 v31 v32 v33 v34 v35 h) (fun v37 =>
 xt_b (xh_ai .int v37.2 a30 (l5 + 1)) (fun v38 =>
 xt_b (xh_ai .int v37.2 a30 (l5 + 2)) (fun v39 =>
 xt_b (xh_ai .int v37.2 a30 (l5 + 3)) (fun v40 =>
 xt_b (xh_ai .int v37.2 a30 (l5 + 4)) (fun v41 =>
 xt_b (xh_ai .int v37.2 a30 (l5 + 5)) (fun v42 =>
 xt_b l2 (fun a43 =>
 xt_m g v37.2 a43 (fun ad44 σ45 =>
 xt_b (F_X5_feed v38 v39 v40 v41 v42 σ45) (fun v46 =>
 (if v37.1 = v46.1 then
 B_L_law_2924 g l0 l1 l2 l3 l4 l5 (xMp v37.2 a43 ad44 v46.2) bc bs k28 Q else
 Q 0 (xMp v37.2 a43 ad44 v46.2)))))))))))))))))))
noncomputable def B_L_law_333 (g : xm_G) (l0 : Option Nat) (l1 : Option Nat) (l2 : Option Nat) (l3 : Option Nat) (l4 : Option Nat) (l5 : Int32) (h : xm_H) (bc : Nat) (bs : Nat) (k28 : Int32 × xm_H × Nat × Nat → Prop) (Q : Int32 → xm_H → Prop) : Prop :=
 xt_b l0 (fun a47 =>
 xt_b (xh_ai .int h a47 (l5 + 1)) (fun v48 =>
 xt_b l1 (fun a49 =>
 xt_b (xh_is 0 h a49) (fun _ =>
 xt_b (F_X1_truncate g a49 v48 h) (fun v50 =>
 xt_b (xh_ai .int v50.2 a47 (l5 + 1)) (fun v51 =>
 xt_b l2 (fun a52 =>
 xt_m g v50.2 a52 (fun ad53 σ54 =>
 xt_b (some (F_X5_truncate v51 σ54)) (fun v55 =>
 (if v50.1 = v55.1 then
 B_L_law_2924 g l0 l1 l2 l3 l4 l5 (xMp v50.2 a52 ad53 v55.2) bc bs k28 Q else
 Q 0 (xMp v50.2 a52 ad53 v55.2)))))))))))
noncomputable def B_L_law_358 (g : xm_G) (l0 : Option Nat) (l1 : Option Nat) (l2 : Option Nat) (l3 : Option Nat) (l4 : Option Nat) (l5 : Int32) (h : xm_H) (bc : Nat) (bs : Nat) (k28 : Int32 × xm_H × Nat × Nat → Prop) (Q : Int32 → xm_H → Prop) : Prop :=
 xt_b l1 (fun a56 =>
 xt_b (xh_is 0 h a56) (fun _ =>
 xt_c bc bs (fun m57 m58 => F_X1_parse g a56 h m57 m58 (fun v60 h59 =>
 xt_b l2 (fun a61 =>
 xt_m g h59 a61 (fun ad62 σ63 =>
 xt_b (F_X5_parse σ63) (fun v64 =>
 (if v60 = v64.1 then
 B_L_law_2924 g l0 l1 l2 l3 l4 l5 (xMp h59 a61 ad62 v64.2) (bc - m57) (bs - m58) k28 Q else
 Q 0 (xMp h59 a61 ad62 v64.2)))))))))
noncomputable def B_L_law_371 (g : xm_G) (l0 : Option Nat) (l1 : Option Nat) (l2 : Option Nat) (l3 : Option Nat) (l4 : Option Nat) (l5 : Int32) (h : xm_H) (bc : Nat) (bs : Nat) (k28 : Int32 × xm_H × Nat × Nat → Prop) (Q : Int32 → xm_H → Prop) : Prop :=
 xt_b l1 (fun a65 =>
 xt_b (xh_is 0 h a65) (fun _ =>
 xt_b (F_X1_errorCode g a65 h) (fun v66 =>
 xt_b l2 (fun a67 =>
 xt_m g h a67 (fun ad68 σ69 =>
 xt_b (some (F_X5_errorCode σ69)) (fun v70 =>
 (if v66 = v70.1 then
 B_L_law_2924 g l0 l1 l2 l3 l4 l5 (xMp h a67 ad68 v70.2) bc bs k28 Q else
 Q 0 (xMp h a67 ad68 v70.2))))))))
noncomputable def B_L_law_384 (g : xm_G) (l0 : Option Nat) (l1 : Option Nat) (l2 : Option Nat) (l3 : Option Nat) (l4 : Option Nat) (l5 : Int32) (h : xm_H) (bc : Nat) (bs : Nat) (k28 : Int32 × xm_H × Nat × Nat → Prop) (Q : Int32 → xm_H → Prop) : Prop :=
 xt_b l1 (fun a71 =>
 xt_b (xh_is 0 h a71) (fun _ =>
 xt_b (F_X1_errorOffset g a71 h) (fun v72 =>
 xt_b l2 (fun a73 =>
 xt_m g h a73 (fun ad74 σ75 =>
 xt_b (some (F_X5_errorOffset σ75)) (fun v76 =>
 (if v72 = v76.1 then
 B_L_law_2924 g l0 l1 l2 l3 l4 l5 (xMp h a73 ad74 v76.2) bc bs k28 Q else
 Q 0 (xMp h a73 ad74 v76.2))))))))
noncomputable def B_L_law_397 (g : xm_G) (l0 : Option Nat) (l1 : Option Nat) (l2 : Option Nat) (l3 : Option Nat) (l4 : Option Nat) (l5 : Int32) (h : xm_H) (bc : Nat) (bs : Nat) (k28 : Int32 × xm_H × Nat × Nat → Prop) (Q : Int32 → xm_H → Prop) : Prop :=
 xt_b l0 (fun a77 =>
 xt_b (xh_ai .int h a77 (l5 + 1)) (fun v78 =>
 xt_b l1 (fun a79 =>
 xt_b (xh_is 0 h a79) (fun _ =>
 xt_b (F_X1_count g a79 v78 h) (fun v80 =>
 xt_b (xh_ai .int h a77 (l5 + 1)) (fun v81 =>
 xt_b l2 (fun a82 =>
 xt_m g h a82 (fun ad83 σ84 =>
 xt_b (F_X5_count v81 σ84) (fun v85 =>
 (if v80 = v85.1 then
 B_L_law_2924 g l0 l1 l2 l3 l4 l5 (xMp h a82 ad83 v85.2) bc bs k28 Q else
 Q 0 (xMp h a82 ad83 v85.2)))))))))))
noncomputable def B_L_law_487 (g : xm_G) (l0 : Option Nat) (l1 : Option Nat) (l2 : Option Nat) (l3 : Option Nat) (l4 : Option Nat) (l5 : Int32) (h : xm_H) (bc : Nat) (bs : Nat) (k28 : Int32 × xm_H × Nat × Nat → Prop) (Q : Int32 → xm_H → Prop) : Prop :=
 B_L_law_2924 g l0 l1 l2 l3 l4 l5 h bc bs k28 Q
noncomputable def B_L_law_422 (g : xm_G) (l0 : Option Nat) (l1 : Option Nat) (l2 : Option Nat) (l3 : Option Nat) (l4 : Option Nat) (l5 : Int32) (h : xm_H) (bc : Nat) (bs : Nat) (k28 : Int32 × xm_H × Nat × Nat → Prop) (Q : Int32 → xm_H → Prop) : Prop :=
 xt_b l0 (fun a86 =>
 xt_b (xh_ai .int h a86 (l5 + 1)) (fun v87 =>
 xt_b (xh_ai .int h a86 (l5 + 2)) (fun v88 =>
 xt_c bc bs (fun m89 m90 => F_X0_operation g l1 v87 v88 l3 h m89 m90 (fun v92 h91 =>
 xt_b (xh_ai .int h91 a86 (l5 + 1)) (fun v93 =>
 xt_b (xh_ai .int h91 a86 (l5 + 2)) (fun v94 =>
 xt_b l2 (fun a95 =>
 xt_m g h91 a95 (fun ad96 σ97 =>
 xt_b (F_X5_operation v93 v94 σ97) (fun v98 =>
 xt_m g (xMp h91 a95 ad96 v98.2) a95 (fun ad99 σ100 =>
 xt_b (some (F_X5_thrown σ100)) (fun v101 =>
 (if v101 = v92 then
 (if v92 = 0 then
 xt_b l3 (fun a102 =>
 xt_b (xh_al (xMp h91 a95 ad96 v98.2) a102 0) (fun v103 =>
 (if (lg_cmp v103 v98.1.toInt64) = 0 then
 B_L_law_487 g l0 l1 l2 l3 l4 l5 (xMp h91 a95 ad96 v98.2) (bc - m89) (bs - m90) k28 Q else
 Q 0 (xMp h91 a95 ad96 v98.2)))) else
 B_L_law_487 g l0 l1 l2 l3 l4 l5 (xMp h91 a95 ad96 v98.2) (bc - m89) (bs - m90) k28 Q) else
 Q 0 (xMp h91 a95 ad96 v98.2))))))))))))))
noncomputable def B_L_law_567 (g : xm_G) (l0 : Option Nat) (l1 : Option Nat) (l2 : Option Nat) (l3 : Option Nat) (l4 : Option Nat) (l5 : Int32) (h : xm_H) (bc : Nat) (bs : Nat) (k28 : Int32 × xm_H × Nat × Nat → Prop) (Q : Int32 → xm_H → Prop) : Prop :=
 B_L_law_2924 g l0 l1 l2 l3 l4 l5 h bc bs k28 Q
noncomputable def B_L_law_490 (g : xm_G) (l0 : Option Nat) (l1 : Option Nat) (l2 : Option Nat) (l3 : Option Nat) (l4 : Option Nat) (l5 : Int32) (h : xm_H) (bc : Nat) (bs : Nat) (k28 : Int32 × xm_H × Nat × Nat → Prop) (Q : Int32 → xm_H → Prop) : Prop :=
 xt_b l0 (fun a104 =>
 xt_b (xh_ai .int h a104 (l5 + 1)) (fun v105 =>
 xt_b (xh_ai .int h a104 (l5 + 2)) (fun v106 =>
 xt_b (xh_ai .int h a104 (l5 + 3)) (fun v107 =>
 xt_c bc bs (fun m108 m109 => F_X0_gate g l1 v105 v106 v107 l3 h m108 m109 (fun v111 h110 =>
 xt_b (xh_ai .int h110 a104 (l5 + 1)) (fun v112 =>
 xt_b (xh_ai .int h110 a104 (l5 + 2)) (fun v113 =>
 xt_b (xh_ai .int h110 a104 (l5 + 3)) (fun v114 =>
 xt_b l2 (fun a115 =>
 xt_m g h110 a115 (fun ad116 σ117 =>
 xt_b (F_X5_gate v112 v113 v114 σ117) (fun v118 =>
 xt_m g (xMp h110 a115 ad116 v118.2) a115 (fun ad119 σ120 =>
 xt_b (some (F_X5_thrown σ120)) (fun v121 =>
 (if v121 = v111 then
 (if v111 = 0 then
 xt_b l3 (fun a122 =>
 xt_b (xh_al (xMp h110 a115 ad116 v118.2) a122 0) (fun v123 =>
 (if (lg_cmp v123 v118.1.toInt64) = 0 then
 B_L_law_567 g l0 l1 l2 l3 l4 l5 (xMp h110 a115 ad116 v118.2) (bc - m108) (bs - m109) k28 Q else
 Q 0 (xMp h110 a115 ad116 v118.2)))) else
 B_L_law_567 g l0 l1 l2 l3 l4 l5 (xMp h110 a115 ad116 v118.2) (bc - m108) (bs - m109) k28 Q) else
 Q 0 (xMp h110 a115 ad116 v118.2))))))))))))))))
noncomputable def B_L_law_675 (g : xm_G) (l0 : Option Nat) (l1 : Option Nat) (l2 : Option Nat) (l3 : Option Nat) (l4 : Option Nat) (l5 : Int32) (h : xm_H) (bc : Nat) (bs : Nat) (k28 : Int32 × xm_H × Nat × Nat → Prop) (Q : Int32 → xm_H → Prop) : Prop :=
 B_L_law_2924 g l0 l1 l2 l3 l4 l5 h bc bs k28 Q
noncomputable def B_L_law_636 (g : xm_G) (l0 : Option Nat) (l1 : Option Nat) (l2 : Option Nat) (l3 : Option Nat) (l4 : Option Nat) (l5 : Int32) (l6 : Int32) (s0 : Option Nat) (s1 : Int32) (s2 : Int32) (s3 : Int32) (h : xm_H) (bc : Nat) (bs : Nat) (k28 : Int32 × xm_H × Nat × Nat → Prop) (Q : Int32 → xm_H → Prop) : Prop :=
 xt_b l0 (fun a137 =>
 xt_b (xh_ai .int h a137 (l5 + 4)) (fun v138 =>
 xt_b s0 (fun a139 =>
 xt_m g h a139 (fun ad140 σ141 =>
 xt_b (F_X5_measure s1 s2 s3 v138 σ141) (fun v142 =>
 xt_b l2 (fun a143 =>
 xt_m g (xMp h a139 ad140 v142.2) a143 (fun ad144 σ145 =>
 xt_b (some (F_X5_thrown σ145)) (fun v146 =>
 (if v146 = l6 then
 (if l6 = 0 then
 xt_b l3 (fun a147 =>
 xt_b (xh_al (xMp h a139 ad140 v142.2) a147 0) (fun v148 =>
 (if (lg_cmp v148 v142.1.toInt64) = 0 then
 B_L_law_675 g l0 l1 l2 l3 l4 l5 (xMp h a139 ad140 v142.2) bc bs k28 Q else
 Q 0 (xMp h a139 ad140 v142.2)))) else
 B_L_law_675 g l0 l1 l2 l3 l4 l5 (xMp h a139 ad140 v142.2) bc bs k28 Q) else
 Q 0 (xMp h a139 ad140 v142.2))))))))))
noncomputable def B_L_law_597 (g : xm_G) (l0 : Option Nat) (l1 : Option Nat) (l2 : Option Nat) (l3 : Option Nat) (l4 : Option Nat) (l5 : Int32) (s0 : Option Nat) (s1 : Int32) (s2 : Int32) (s3 : Int32) (h : xm_H) (bc : Nat) (bs : Nat) (k28 : Int32 × xm_H × Nat × Nat → Prop) (Q : Int32 → xm_H → Prop) : Prop :=
 xt_b l0 (fun a128 =>
 xt_b (xh_ai .int h a128 (l5 + 4)) (fun v129 =>
 xt_c bc bs (fun m130 m131 => F_X0_measure g s0 s1 s2 s3 v129 l3 h m130 m131 (fun v133 h132 =>
 xt_b (xh_ai .int h132 a128 (l5 + 1)) (fun v134 =>
 xt_b (xh_ai .int h132 a128 (l5 + 2)) (fun v135 =>
 xt_b (xh_ai .int h132 a128 (l5 + 3)) (fun v136 =>
 B_L_law_636 g l0 l1 l2 l3 l4 l5 v133 l2 v134 v135 (if v136 = 0 then 0 else 1) h132 (bc - m130) (bs - m131) k28 Q)))))))
noncomputable def B_L_law_570 (g : xm_G) (l0 : Option Nat) (l1 : Option Nat) (l2 : Option Nat) (l3 : Option Nat) (l4 : Option Nat) (l5 : Int32) (h : xm_H) (bc : Nat) (bs : Nat) (k28 : Int32 × xm_H × Nat × Nat → Prop) (Q : Int32 → xm_H → Prop) : Prop :=
 xt_b l0 (fun a124 =>
 xt_b (xh_ai .int h a124 (l5 + 1)) (fun v125 =>
 xt_b (xh_ai .int h a124 (l5 + 2)) (fun v126 =>
 xt_b (xh_ai .int h a124 (l5 + 3)) (fun v127 =>
 B_L_law_597 g l0 l1 l2 l3 l4 l5 l1 v125 v126 (if v127 = 0 then 0 else 1) h bc bs k28 Q))))
noncomputable def B_L_law_719 (g : xm_G) (l0 : Option Nat) (l1 : Option Nat) (l2 : Option Nat) (l3 : Option Nat) (l4 : Option Nat) (l5 : Int32) (h : xm_H) (bc : Nat) (bs : Nat) (k28 : Int32 × xm_H × Nat × Nat → Prop) (Q : Int32 → xm_H → Prop) : Prop :=
 B_L_law_2924 g l0 l1 l2 l3 l4 l5 h bc bs k28 Q
noncomputable def B_L_law_678 (g : xm_G) (l0 : Option Nat) (l1 : Option Nat) (l2 : Option Nat) (l3 : Option Nat) (l4 : Option Nat) (l5 : Int32) (h : xm_H) (bc : Nat) (bs : Nat) (k28 : Int32 × xm_H × Nat × Nat → Prop) (Q : Int32 → xm_H → Prop) : Prop :=
 xt_c bc bs (fun m149 m150 => F_X0_measureAll g l1 l3 h m149 m150 (fun v152 h151 =>
 xt_b l2 (fun a153 =>
 xt_m g h151 a153 (fun ad154 σ155 =>
 xt_b (F_X5_measureAll σ155) (fun v156 =>
 xt_m g (xMp h151 a153 ad154 v156.2) a153 (fun ad157 σ158 =>
 xt_b (some (F_X5_thrown σ158)) (fun v159 =>
 (if v159 = v152 then
 (if v152 = 0 then
 xt_b l3 (fun a160 =>
 xt_b (xh_al (xMp h151 a153 ad154 v156.2) a160 0) (fun v161 =>
 (if (lg_cmp v161 v156.1.toInt64) = 0 then
 B_L_law_719 g l0 l1 l2 l3 l4 l5 (xMp h151 a153 ad154 v156.2) (bc - m149) (bs - m150) k28 Q else
 Q 0 (xMp h151 a153 ad154 v156.2)))) else
 B_L_law_719 g l0 l1 l2 l3 l4 l5 (xMp h151 a153 ad154 v156.2) (bc - m149) (bs - m150) k28 Q) else
 Q 0 (xMp h151 a153 ad154 v156.2)))))))))
noncomputable def B_L_law_722 (g : xm_G) (l0 : Option Nat) (l1 : Option Nat) (l2 : Option Nat) (l3 : Option Nat) (l4 : Option Nat) (l5 : Int32) (h : xm_H) (bc : Nat) (bs : Nat) (k28 : Int32 × xm_H × Nat × Nat → Prop) (Q : Int32 → xm_H → Prop) : Prop :=
 xt_b l1 (fun a162 =>
 xt_b (xh_is 0 h a162) (fun _ =>
 xt_c bc bs (fun m163 m164 => F_X1_step g a162 h m163 m164 (fun v166 h165 =>
 xt_b l2 (fun a167 =>
 xt_m g h165 a167 (fun ad168 σ169 =>
 xt_b (F_X5_step σ169) (fun v170 =>
 (if v166 = v170.1 then
 B_L_law_2924 g l0 l1 l2 l3 l4 l5 (xMp h165 a167 ad168 v170.2) (bc - m163) (bs - m164) k28 Q else
 Q 0 (xMp h165 a167 ad168 v170.2)))))))))
noncomputable def B_L_law_788 (g : xm_G) (l0 : Option Nat) (l1 : Option Nat) (l2 : Option Nat) (l3 : Option Nat) (l4 : Option Nat) (l5 : Int32) (h : xm_H) (bc : Nat) (bs : Nat) (k28 : Int32 × xm_H × Nat × Nat → Prop) (Q : Int32 → xm_H → Prop) : Prop :=
 B_L_law_2924 g l0 l1 l2 l3 l4 l5 h bc bs k28 Q
noncomputable def B_L_law_735 (g : xm_G) (l0 : Option Nat) (l1 : Option Nat) (l2 : Option Nat) (l3 : Option Nat) (l4 : Option Nat) (l5 : Int32) (h : xm_H) (bc : Nat) (bs : Nat) (k28 : Int32 × xm_H × Nat × Nat → Prop) (Q : Int32 → xm_H → Prop) : Prop :=
 xt_b l0 (fun a171 =>
 xt_b (xh_ai .int h a171 (l5 + 1)) (fun v172 =>
 xt_c bc bs (fun m173 m174 => F_X0_run g l1 v172 l3 h m173 m174 (fun v176 h175 =>
 xt_b (xh_ai .int h175 a171 (l5 + 1)) (fun v177 =>
 xt_b l2 (fun a178 =>
 xt_m g h175 a178 (fun ad179 σ180 =>
 xt_b (F_X5_run v177 σ180) (fun v181 =>
 xt_m g (xMp h175 a178 ad179 v181.2) a178 (fun ad182 σ183 =>
 xt_b (some (F_X5_thrown σ183)) (fun v184 =>
 (if v184 = v176 then
 (if v176 = 0 then
 xt_b l3 (fun a185 =>
 xt_b (xh_al (xMp h175 a178 ad179 v181.2) a185 0) (fun v186 =>
 (if (lg_cmp v186 v181.1.toInt64) = 0 then
 B_L_law_788 g l0 l1 l2 l3 l4 l5 (xMp h175 a178 ad179 v181.2) (bc - m173) (bs - m174) k28 Q else
 Q 0 (xMp h175 a178 ad179 v181.2)))) else
 B_L_law_788 g l0 l1 l2 l3 l4 l5 (xMp h175 a178 ad179 v181.2) (bc - m173) (bs - m174) k28 Q) else
 Q 0 (xMp h175 a178 ad179 v181.2))))))))))))
noncomputable def B_L_law_791 (g : xm_G) (l0 : Option Nat) (l1 : Option Nat) (l2 : Option Nat) (l3 : Option Nat) (l4 : Option Nat) (l5 : Int32) (h : xm_H) (bc : Nat) (bs : Nat) (k28 : Int32 × xm_H × Nat × Nat → Prop) (Q : Int32 → xm_H → Prop) : Prop :=
 xt_b l1 (fun a187 =>
 xt_b (xh_is 0 h a187) (fun _ =>
 xt_c bc bs (fun m188 m189 => F_X1_runnable g a187 h m188 m189 (fun v191 h190 =>
 xt_b l2 (fun a192 =>
 xt_m g h190 a192 (fun ad193 σ194 =>
 xt_b (F_X5_runnable σ194) (fun v195 =>
 (if v191 = v195.1 then
 B_L_law_2924 g l0 l1 l2 l3 l4 l5 (xMp h190 a192 ad193 v195.2) (bc - m188) (bs - m189) k28 Q else
 Q 0 (xMp h190 a192 ad193 v195.2)))))))))
noncomputable def B_L_law_857 (g : xm_G) (l0 : Option Nat) (l1 : Option Nat) (l2 : Option Nat) (l3 : Option Nat) (l4 : Option Nat) (l5 : Int32) (h : xm_H) (bc : Nat) (bs : Nat) (k28 : Int32 × xm_H × Nat × Nat → Prop) (Q : Int32 → xm_H → Prop) : Prop :=
 B_L_law_2924 g l0 l1 l2 l3 l4 l5 h bc bs k28 Q
noncomputable def B_L_law_804 (g : xm_G) (l0 : Option Nat) (l1 : Option Nat) (l2 : Option Nat) (l3 : Option Nat) (l4 : Option Nat) (l5 : Int32) (h : xm_H) (bc : Nat) (bs : Nat) (k28 : Int32 × xm_H × Nat × Nat → Prop) (Q : Int32 → xm_H → Prop) : Prop :=
 xt_b l0 (fun a196 =>
 xt_b (xh_ai .int h a196 (l5 + 1)) (fun v197 =>
 xt_c bc bs (fun m198 m199 => F_X0_reverse g l1 v197 l3 h m198 m199 (fun v201 h200 =>
 xt_b (xh_ai .int h200 a196 (l5 + 1)) (fun v202 =>
 xt_b l2 (fun a203 =>
 xt_m g h200 a203 (fun ad204 σ205 =>
 xt_b (F_X5_reverse v202 σ205) (fun v206 =>
 xt_m g (xMp h200 a203 ad204 v206.2) a203 (fun ad207 σ208 =>
 xt_b (some (F_X5_thrown σ208)) (fun v209 =>
 (if v209 = v201 then
 (if v201 = 0 then
 xt_b l3 (fun a210 =>
 xt_b (xh_al (xMp h200 a203 ad204 v206.2) a210 0) (fun v211 =>
 (if (lg_cmp v211 v206.1.toInt64) = 0 then
 B_L_law_857 g l0 l1 l2 l3 l4 l5 (xMp h200 a203 ad204 v206.2) (bc - m198) (bs - m199) k28 Q else
 Q 0 (xMp h200 a203 ad204 v206.2)))) else
 B_L_law_857 g l0 l1 l2 l3 l4 l5 (xMp h200 a203 ad204 v206.2) (bc - m198) (bs - m199) k28 Q) else
 Q 0 (xMp h200 a203 ad204 v206.2))))))))))))
noncomputable def B_L_law_860 (g : xm_G) (l0 : Option Nat) (l1 : Option Nat) (l2 : Option Nat) (l3 : Option Nat) (l4 : Option Nat) (l5 : Int32) (h : xm_H) (bc : Nat) (bs : Nat) (k28 : Int32 × xm_H × Nat × Nat → Prop) (Q : Int32 → xm_H → Prop) : Prop :=
 xt_b l1 (fun a212 =>
 xt_b (xh_is 0 h a212) (fun _ =>
 xt_c bc bs (fun m213 m214 => F_X1_makeCanonical g a212 h m213 m214 (fun v216 h215 =>
 xt_b l2 (fun a217 =>
 xt_m g h215 a217 (fun ad218 σ219 =>
 xt_b (F_X5_makeCanonical σ219) (fun v220 =>
 (if v216 = v220.1 then
 B_L_law_2924 g l0 l1 l2 l3 l4 l5 (xMp h215 a217 ad218 v220.2) (bc - m213) (bs - m214) k28 Q else
 Q 0 (xMp h215 a217 ad218 v220.2)))))))))
noncomputable def B_L_law_926 (g : xm_G) (l0 : Option Nat) (l1 : Option Nat) (l2 : Option Nat) (l3 : Option Nat) (l4 : Option Nat) (l5 : Int32) (h : xm_H) (bc : Nat) (bs : Nat) (k28 : Int32 × xm_H × Nat × Nat → Prop) (Q : Int32 → xm_H → Prop) : Prop :=
 B_L_law_2924 g l0 l1 l2 l3 l4 l5 h bc bs k28 Q
noncomputable def B_L_law_873 (g : xm_G) (l0 : Option Nat) (l1 : Option Nat) (l2 : Option Nat) (l3 : Option Nat) (l4 : Option Nat) (l5 : Int32) (h : xm_H) (bc : Nat) (bs : Nat) (k28 : Int32 × xm_H × Nat × Nat → Prop) (Q : Int32 → xm_H → Prop) : Prop :=
 xt_b l0 (fun a221 =>
 xt_b (xh_ai .int h a221 (l5 + 1)) (fun v222 =>
 xt_c bc bs (fun m223 m224 => F_X0_goBack g l1 v222 l3 h m223 m224 (fun v226 h225 =>
 xt_b (xh_ai .int h225 a221 (l5 + 1)) (fun v227 =>
 xt_b l2 (fun a228 =>
 xt_m g h225 a228 (fun ad229 σ230 =>
 xt_b (F_X5_goBack v227 σ230) (fun v231 =>
 xt_m g (xMp h225 a228 ad229 v231.2) a228 (fun ad232 σ233 =>
 xt_b (some (F_X5_thrown σ233)) (fun v234 =>
 (if v234 = v226 then
 (if v226 = 0 then
 xt_b l3 (fun a235 =>
 xt_b (xh_al (xMp h225 a228 ad229 v231.2) a235 0) (fun v236 =>
 (if (lg_cmp v236 v231.1.toInt64) = 0 then
 B_L_law_926 g l0 l1 l2 l3 l4 l5 (xMp h225 a228 ad229 v231.2) (bc - m223) (bs - m224) k28 Q else
 Q 0 (xMp h225 a228 ad229 v231.2)))) else
 B_L_law_926 g l0 l1 l2 l3 l4 l5 (xMp h225 a228 ad229 v231.2) (bc - m223) (bs - m224) k28 Q) else
 Q 0 (xMp h225 a228 ad229 v231.2))))))))))))
noncomputable def B_L_law_970 (g : xm_G) (l0 : Option Nat) (l1 : Option Nat) (l2 : Option Nat) (l3 : Option Nat) (l4 : Option Nat) (l5 : Int32) (h : xm_H) (bc : Nat) (bs : Nat) (k28 : Int32 × xm_H × Nat × Nat → Prop) (Q : Int32 → xm_H → Prop) : Prop :=
 B_L_law_2924 g l0 l1 l2 l3 l4 l5 h bc bs k28 Q
noncomputable def B_L_law_929 (g : xm_G) (l0 : Option Nat) (l1 : Option Nat) (l2 : Option Nat) (l3 : Option Nat) (l4 : Option Nat) (l5 : Int32) (h : xm_H) (bc : Nat) (bs : Nat) (k28 : Int32 × xm_H × Nat × Nat → Prop) (Q : Int32 → xm_H → Prop) : Prop :=
 xt_c bc bs (fun m237 m238 => F_X0_undo g l1 l3 h m237 m238 (fun v240 h239 =>
 xt_b l2 (fun a241 =>
 xt_m g h239 a241 (fun ad242 σ243 =>
 xt_b (F_X5_undo σ243) (fun v244 =>
 xt_m g (xMp h239 a241 ad242 v244.2) a241 (fun ad245 σ246 =>
 xt_b (some (F_X5_thrown σ246)) (fun v247 =>
 (if v247 = v240 then
 (if v240 = 0 then
 xt_b l3 (fun a248 =>
 xt_b (xh_al (xMp h239 a241 ad242 v244.2) a248 0) (fun v249 =>
 (if (lg_cmp v249 v244.1.toInt64) = 0 then
 B_L_law_970 g l0 l1 l2 l3 l4 l5 (xMp h239 a241 ad242 v244.2) (bc - m237) (bs - m238) k28 Q else
 Q 0 (xMp h239 a241 ad242 v244.2)))) else
 B_L_law_970 g l0 l1 l2 l3 l4 l5 (xMp h239 a241 ad242 v244.2) (bc - m237) (bs - m238) k28 Q) else
 Q 0 (xMp h239 a241 ad242 v244.2)))))))))
noncomputable def B_L_law_1038 (g : xm_G) (l0 : Option Nat) (l1 : Option Nat) (l2 : Option Nat) (l3 : Option Nat) (l4 : Option Nat) (l5 : Int32) (h : xm_H) (bc : Nat) (bs : Nat) (k28 : Int32 × xm_H × Nat × Nat → Prop) (Q : Int32 → xm_H → Prop) : Prop :=
 B_L_law_2924 g l0 l1 l2 l3 l4 l5 h bc bs k28 Q
noncomputable def B_L_law_973 (g : xm_G) (l0 : Option Nat) (l1 : Option Nat) (l2 : Option Nat) (l3 : Option Nat) (l4 : Option Nat) (l5 : Int32) (h : xm_H) (bc : Nat) (bs : Nat) (k28 : Int32 × xm_H × Nat × Nat → Prop) (Q : Int32 → xm_H → Prop) : Prop :=
 xt_b l0 (fun a250 =>
 xt_b (xh_ai .int h a250 (l5 + 1)) (fun v251 =>
 xt_b (xh_ai .int h a250 (l5 + 2)) (fun v252 =>
 xt_c bc bs (fun m253 m254 => F_X0_letter g l1 v251 v252 l3 h m253 m254 (fun v256 h255 =>
 xt_b (xh_ai .int h255 a250 (l5 + 1)) (fun v257 =>
 xt_b (xh_ai .int h255 a250 (l5 + 2)) (fun v258 =>
 xt_b l2 (fun a259 =>
 xt_m g h255 a259 (fun ad260 σ261 =>
 xt_b (F_X5_letter v257 v258 σ261) (fun v262 =>
 xt_m g (xMp h255 a259 ad260 v262.2) a259 (fun ad263 σ264 =>
 xt_b (some (F_X5_thrown σ264)) (fun v265 =>
 (if v265 = v256 then
 (if v256 = 0 then
 xt_b l3 (fun a266 =>
 xt_b (xh_al (xMp h255 a259 ad260 v262.2) a266 0) (fun v267 =>
 (if (lg_cmp v267 v262.1.toInt64) = 0 then
 B_L_law_1038 g l0 l1 l2 l3 l4 l5 (xMp h255 a259 ad260 v262.2) (bc - m253) (bs - m254) k28 Q else
 Q 0 (xMp h255 a259 ad260 v262.2)))) else
 B_L_law_1038 g l0 l1 l2 l3 l4 l5 (xMp h255 a259 ad260 v262.2) (bc - m253) (bs - m254) k28 Q) else
 Q 0 (xMp h255 a259 ad260 v262.2))))))))))))))
noncomputable def B_L_law_1106 (g : xm_G) (l0 : Option Nat) (l1 : Option Nat) (l2 : Option Nat) (l3 : Option Nat) (l4 : Option Nat) (l5 : Int32) (h : xm_H) (bc : Nat) (bs : Nat) (k28 : Int32 × xm_H × Nat × Nat → Prop) (Q : Int32 → xm_H → Prop) : Prop :=
 B_L_law_2924 g l0 l1 l2 l3 l4 l5 h bc bs k28 Q
noncomputable def B_L_law_1041 (g : xm_G) (l0 : Option Nat) (l1 : Option Nat) (l2 : Option Nat) (l3 : Option Nat) (l4 : Option Nat) (l5 : Int32) (h : xm_H) (bc : Nat) (bs : Nat) (k28 : Int32 × xm_H × Nat × Nat → Prop) (Q : Int32 → xm_H → Prop) : Prop :=
 xt_b l0 (fun a268 =>
 xt_b (xh_ai .int h a268 (l5 + 1)) (fun v269 =>
 xt_b (xh_ai .int h a268 (l5 + 2)) (fun v270 =>
 xt_c bc bs (fun m271 m272 => F_X0_row g l1 v269 v270 l3 h m271 m272 (fun v274 h273 =>
 xt_b (xh_ai .int h273 a268 (l5 + 1)) (fun v275 =>
 xt_b (xh_ai .int h273 a268 (l5 + 2)) (fun v276 =>
 xt_b l2 (fun a277 =>
 xt_m g h273 a277 (fun ad278 σ279 =>
 xt_b (F_X5_row v275 v276 σ279) (fun v280 =>
 xt_m g (xMp h273 a277 ad278 v280.2) a277 (fun ad281 σ282 =>
 xt_b (some (F_X5_thrown σ282)) (fun v283 =>
 (if v283 = v274 then
 (if v274 = 0 then
 xt_b l3 (fun a284 =>
 xt_b (xh_al (xMp h273 a277 ad278 v280.2) a284 0) (fun v285 =>
 (if (lg_cmp v285 v280.1.toInt64) = 0 then
 B_L_law_1106 g l0 l1 l2 l3 l4 l5 (xMp h273 a277 ad278 v280.2) (bc - m271) (bs - m272) k28 Q else
 Q 0 (xMp h273 a277 ad278 v280.2)))) else
 B_L_law_1106 g l0 l1 l2 l3 l4 l5 (xMp h273 a277 ad278 v280.2) (bc - m271) (bs - m272) k28 Q) else
 Q 0 (xMp h273 a277 ad278 v280.2))))))))))))))
noncomputable def B_L_law_1174 (g : xm_G) (l0 : Option Nat) (l1 : Option Nat) (l2 : Option Nat) (l3 : Option Nat) (l4 : Option Nat) (l5 : Int32) (h : xm_H) (bc : Nat) (bs : Nat) (k28 : Int32 × xm_H × Nat × Nat → Prop) (Q : Int32 → xm_H → Prop) : Prop :=
 B_L_law_2924 g l0 l1 l2 l3 l4 l5 h bc bs k28 Q
noncomputable def B_L_law_1109 (g : xm_G) (l0 : Option Nat) (l1 : Option Nat) (l2 : Option Nat) (l3 : Option Nat) (l4 : Option Nat) (l5 : Int32) (h : xm_H) (bc : Nat) (bs : Nat) (k28 : Int32 × xm_H × Nat × Nat → Prop) (Q : Int32 → xm_H → Prop) : Prop :=
 xt_b l0 (fun a286 =>
 xt_b (xh_ai .int h a286 (l5 + 1)) (fun v287 =>
 xt_b (xh_ai .int h a286 (l5 + 2)) (fun v288 =>
 xt_c bc bs (fun m289 m290 => F_X0_canonical g l1 v287 v288 l3 h m289 m290 (fun v292 h291 =>
 xt_b (xh_ai .int h291 a286 (l5 + 1)) (fun v293 =>
 xt_b (xh_ai .int h291 a286 (l5 + 2)) (fun v294 =>
 xt_b l2 (fun a295 =>
 xt_m g h291 a295 (fun ad296 σ297 =>
 xt_b (F_X5_canonical v293 v294 σ297) (fun v298 =>
 xt_m g (xMp h291 a295 ad296 v298.2) a295 (fun ad299 σ300 =>
 xt_b (some (F_X5_thrown σ300)) (fun v301 =>
 (if v301 = v292 then
 (if v292 = 0 then
 xt_b l3 (fun a302 =>
 xt_b (xh_al (xMp h291 a295 ad296 v298.2) a302 0) (fun v303 =>
 (if (lg_cmp v303 v298.1.toInt64) = 0 then
 B_L_law_1174 g l0 l1 l2 l3 l4 l5 (xMp h291 a295 ad296 v298.2) (bc - m289) (bs - m290) k28 Q else
 Q 0 (xMp h291 a295 ad296 v298.2)))) else
 B_L_law_1174 g l0 l1 l2 l3 l4 l5 (xMp h291 a295 ad296 v298.2) (bc - m289) (bs - m290) k28 Q) else
 Q 0 (xMp h291 a295 ad296 v298.2))))))))))))))
noncomputable def B_L_law_1242 (g : xm_G) (l0 : Option Nat) (l1 : Option Nat) (l2 : Option Nat) (l3 : Option Nat) (l4 : Option Nat) (l5 : Int32) (h : xm_H) (bc : Nat) (bs : Nat) (k28 : Int32 × xm_H × Nat × Nat → Prop) (Q : Int32 → xm_H → Prop) : Prop :=
 B_L_law_2924 g l0 l1 l2 l3 l4 l5 h bc bs k28 Q
noncomputable def B_L_law_1177 (g : xm_G) (l0 : Option Nat) (l1 : Option Nat) (l2 : Option Nat) (l3 : Option Nat) (l4 : Option Nat) (l5 : Int32) (h : xm_H) (bc : Nat) (bs : Nat) (k28 : Int32 × xm_H × Nat × Nat → Prop) (Q : Int32 → xm_H → Prop) : Prop :=
 xt_b l0 (fun a304 =>
 xt_b (xh_ai .int h a304 (l5 + 1)) (fun v305 =>
 xt_b (xh_ai .int h a304 (l5 + 2)) (fun v306 =>
 xt_c bc bs (fun m307 m308 => F_X0_measured g l1 v305 v306 l3 h m307 m308 (fun v310 h309 =>
 xt_b (xh_ai .int h309 a304 (l5 + 1)) (fun v311 =>
 xt_b (xh_ai .int h309 a304 (l5 + 2)) (fun v312 =>
 xt_b l2 (fun a313 =>
 xt_m g h309 a313 (fun ad314 σ315 =>
 xt_b (F_X5_measured v311 v312 σ315) (fun v316 =>
 xt_m g (xMp h309 a313 ad314 v316.2) a313 (fun ad317 σ318 =>
 xt_b (some (F_X5_thrown σ318)) (fun v319 =>
 (if v319 = v310 then
 (if v310 = 0 then
 xt_b l3 (fun a320 =>
 xt_b (xh_al (xMp h309 a313 ad314 v316.2) a320 0) (fun v321 =>
 (if (lg_cmp v321 v316.1.toInt64) = 0 then
 B_L_law_1242 g l0 l1 l2 l3 l4 l5 (xMp h309 a313 ad314 v316.2) (bc - m307) (bs - m308) k28 Q else
 Q 0 (xMp h309 a313 ad314 v316.2)))) else
 B_L_law_1242 g l0 l1 l2 l3 l4 l5 (xMp h309 a313 ad314 v316.2) (bc - m307) (bs - m308) k28 Q) else
 Q 0 (xMp h309 a313 ad314 v316.2))))))))))))))
noncomputable def B_L_law_1341 (g : xm_G) (l0 : Option Nat) (l1 : Option Nat) (l2 : Option Nat) (l3 : Option Nat) (l4 : Option Nat) (l5 : Int32) (h : xm_H) (bc : Nat) (bs : Nat) (k28 : Int32 × xm_H × Nat × Nat → Prop) (Q : Int32 → xm_H → Prop) : Prop :=
 B_L_law_2924 g l0 l1 l2 l3 l4 l5 h bc bs k28 Q
noncomputable def B_L_law_1335 (g : xm_G) (l0 : Option Nat) (l1 : Option Nat) (l2 : Option Nat) (l3 : Option Nat) (l4 : Option Nat) (l5 : Int32) (s0 : Int64) (s1 : Int64) (h : xm_H) (bc : Nat) (bs : Nat) (k28 : Int32 × xm_H × Nat × Nat → Prop) (Q : Int32 → xm_H → Prop) : Prop :=
 (if (lg_cmp s0 s1) = 0 then
 B_L_law_1341 g l0 l1 l2 l3 l4 l5 h bc bs k28 Q else
 Q 0 h)
noncomputable def B_L_law_1245 (g : xm_G) (l0 : Option Nat) (l1 : Option Nat) (l2 : Option Nat) (l3 : Option Nat) (l4 : Option Nat) (l5 : Int32) (h : xm_H) (bc : Nat) (bs : Nat) (k28 : Int32 × xm_H × Nat × Nat → Prop) (Q : Int32 → xm_H → Prop) : Prop :=
 xt_b l0 (fun a322 =>
 xt_b (xh_ai .int h a322 (l5 + 1)) (fun v323 =>
 xt_b (xh_ai .int h a322 (l5 + 2)) (fun v324 =>
 xt_b (xh_ai .int h a322 (l5 + 3)) (fun v325 =>
 xt_b (xh_ai .int h a322 (l5 + 4)) (fun v326 =>
 xt_c bc bs (fun m327 m328 => F_X0_commute g l1 v323 v324 v325 v326 l3 h m327 m328 (fun v330 h329 =>
 xt_b (xh_ai .int h329 a322 (l5 + 1)) (fun v331 =>
 xt_b (xh_ai .int h329 a322 (l5 + 2)) (fun v332 =>
 xt_b (xh_ai .int h329 a322 (l5 + 3)) (fun v333 =>
 xt_b (xh_ai .int h329 a322 (l5 + 4)) (fun v334 =>
 xt_b l2 (fun a335 =>
 xt_m g h329 a335 (fun ad336 σ337 =>
 xt_b (F_X5_commute v331 v332 v333 v334 σ337) (fun v338 =>
 xt_m g (xMp h329 a335 ad336 v338.2) a335 (fun ad339 σ340 =>
 xt_b (some (F_X5_thrown σ340)) (fun v341 =>
 (if v341 = v330 then
 (if v330 = 0 then
 xt_b l3 (fun a342 =>
 xt_b (xh_al (xMp h329 a335 ad336 v338.2) a342 0) (fun v343 =>
 B_L_law_1335 g l0 l1 l2 l3 l4 l5 v343 (if v338.1 = 0 then 0 else 1) (xMp h329 a335 ad336 v338.2) (bc - m327) (bs - m328) k28 Q)) else
 B_L_law_1341 g l0 l1 l2 l3 l4 l5 (xMp h329 a335 ad336 v338.2) (bc - m327) (bs - m328) k28 Q) else
 Q 0 (xMp h329 a335 ad336 v338.2))))))))))))))))))
noncomputable def B_L_law_1433 (g : xm_G) (l0 : Option Nat) (l1 : Option Nat) (l2 : Option Nat) (l3 : Option Nat) (l4 : Option Nat) (l5 : Int32) (h : xm_H) (bc : Nat) (bs : Nat) (k28 : Int32 × xm_H × Nat × Nat → Prop) (Q : Int32 → xm_H → Prop) : Prop :=
 B_L_law_2924 g l0 l1 l2 l3 l4 l5 h bc bs k28 Q
noncomputable def B_L_law_1344 (g : xm_G) (l0 : Option Nat) (l1 : Option Nat) (l2 : Option Nat) (l3 : Option Nat) (l4 : Option Nat) (l5 : Int32) (h : xm_H) (bc : Nat) (bs : Nat) (k28 : Int32 × xm_H × Nat × Nat → Prop) (Q : Int32 → xm_H → Prop) : Prop :=
 xt_b l0 (fun a344 =>
 xt_b (xh_ai .int h a344 (l5 + 1)) (fun v345 =>
 xt_b (xh_ai .int h a344 (l5 + 2)) (fun v346 =>
 xt_b (xh_ai .int h a344 (l5 + 3)) (fun v347 =>
 xt_b (xh_ai .int h a344 (l5 + 4)) (fun v348 =>
 xt_c bc bs (fun m349 m350 => F_X0_phase g l1 v345 v346 v347 v348 l3 h m349 m350 (fun v352 h351 =>
 xt_b (xh_ai .int h351 a344 (l5 + 1)) (fun v353 =>
 xt_b (xh_ai .int h351 a344 (l5 + 2)) (fun v354 =>
 xt_b (xh_ai .int h351 a344 (l5 + 3)) (fun v355 =>
 xt_b (xh_ai .int h351 a344 (l5 + 4)) (fun v356 =>
 xt_b l2 (fun a357 =>
 xt_m g h351 a357 (fun ad358 σ359 =>
 xt_b (F_X5_phase v353 v354 v355 v356 σ359) (fun v360 =>
 xt_m g (xMp h351 a357 ad358 v360.2) a357 (fun ad361 σ362 =>
 xt_b (some (F_X5_thrown σ362)) (fun v363 =>
 (if v363 = v352 then
 (if v352 = 0 then
 xt_b l3 (fun a364 =>
 xt_b (xh_al (xMp h351 a357 ad358 v360.2) a364 0) (fun v365 =>
 (if (lg_cmp v365 v360.1.toInt64) = 0 then
 B_L_law_1433 g l0 l1 l2 l3 l4 l5 (xMp h351 a357 ad358 v360.2) (bc - m349) (bs - m350) k28 Q else
 Q 0 (xMp h351 a357 ad358 v360.2)))) else
 B_L_law_1433 g l0 l1 l2 l3 l4 l5 (xMp h351 a357 ad358 v360.2) (bc - m349) (bs - m350) k28 Q) else
 Q 0 (xMp h351 a357 ad358 v360.2))))))))))))))))))
noncomputable def B_L_law_1501 (g : xm_G) (l0 : Option Nat) (l1 : Option Nat) (l2 : Option Nat) (l3 : Option Nat) (l4 : Option Nat) (l5 : Int32) (h : xm_H) (bc : Nat) (bs : Nat) (k28 : Int32 × xm_H × Nat × Nat → Prop) (Q : Int32 → xm_H → Prop) : Prop :=
 B_L_law_2924 g l0 l1 l2 l3 l4 l5 h bc bs k28 Q
noncomputable def B_L_law_1436 (g : xm_G) (l0 : Option Nat) (l1 : Option Nat) (l2 : Option Nat) (l3 : Option Nat) (l4 : Option Nat) (l5 : Int32) (h : xm_H) (bc : Nat) (bs : Nat) (k28 : Int32 × xm_H × Nat × Nat → Prop) (Q : Int32 → xm_H → Prop) : Prop :=
 xt_b l0 (fun a366 =>
 xt_b (xh_ai .int h a366 (l5 + 1)) (fun v367 =>
 xt_b (xh_ai .int h a366 (l5 + 2)) (fun v368 =>
 xt_c bc bs (fun m369 m370 => F_X0_against g l1 v367 v368 l3 h m369 m370 (fun v372 h371 =>
 xt_b (xh_ai .int h371 a366 (l5 + 1)) (fun v373 =>
 xt_b (xh_ai .int h371 a366 (l5 + 2)) (fun v374 =>
 xt_b l2 (fun a375 =>
 xt_m g h371 a375 (fun ad376 σ377 =>
 xt_b (F_X5_against v373 v374 σ377) (fun v378 =>
 xt_m g (xMp h371 a375 ad376 v378.2) a375 (fun ad379 σ380 =>
 xt_b (some (F_X5_thrown σ380)) (fun v381 =>
 (if v381 = v372 then
 (if v372 = 0 then
 xt_b l3 (fun a382 =>
 xt_b (xh_al (xMp h371 a375 ad376 v378.2) a382 0) (fun v383 =>
 (if (lg_cmp v383 v378.1.toInt64) = 0 then
 B_L_law_1501 g l0 l1 l2 l3 l4 l5 (xMp h371 a375 ad376 v378.2) (bc - m369) (bs - m370) k28 Q else
 Q 0 (xMp h371 a375 ad376 v378.2)))) else
 B_L_law_1501 g l0 l1 l2 l3 l4 l5 (xMp h371 a375 ad376 v378.2) (bc - m369) (bs - m370) k28 Q) else
 Q 0 (xMp h371 a375 ad376 v378.2))))))))))))))
noncomputable def B_L_law_1569 (g : xm_G) (l0 : Option Nat) (l1 : Option Nat) (l2 : Option Nat) (l3 : Option Nat) (l4 : Option Nat) (l5 : Int32) (h : xm_H) (bc : Nat) (bs : Nat) (k28 : Int32 × xm_H × Nat × Nat → Prop) (Q : Int32 → xm_H → Prop) : Prop :=
 B_L_law_2924 g l0 l1 l2 l3 l4 l5 h bc bs k28 Q
noncomputable def B_L_law_1504 (g : xm_G) (l0 : Option Nat) (l1 : Option Nat) (l2 : Option Nat) (l3 : Option Nat) (l4 : Option Nat) (l5 : Int32) (h : xm_H) (bc : Nat) (bs : Nat) (k28 : Int32 × xm_H × Nat × Nat → Prop) (Q : Int32 → xm_H → Prop) : Prop :=
 xt_b l0 (fun a384 =>
 xt_b (xh_ai .int h a384 (l5 + 1)) (fun v385 =>
 xt_b (xh_ai .int h a384 (l5 + 2)) (fun v386 =>
 xt_c bc bs (fun m387 m388 => F_X0_expectation g l1 v385 v386 l3 h m387 m388 (fun v390 h389 =>
 xt_b (xh_ai .int h389 a384 (l5 + 1)) (fun v391 =>
 xt_b (xh_ai .int h389 a384 (l5 + 2)) (fun v392 =>
 xt_b l2 (fun a393 =>
 xt_m g h389 a393 (fun ad394 σ395 =>
 xt_b (F_X5_expectation v391 v392 σ395) (fun v396 =>
 xt_m g (xMp h389 a393 ad394 v396.2) a393 (fun ad397 σ398 =>
 xt_b (some (F_X5_thrown σ398)) (fun v399 =>
 (if v399 = v390 then
 (if v390 = 0 then
 xt_b l3 (fun a400 =>
 xt_b (xh_al (xMp h389 a393 ad394 v396.2) a400 0) (fun v401 =>
 (if (lg_cmp v401 v396.1.toInt64) = 0 then
 B_L_law_1569 g l0 l1 l2 l3 l4 l5 (xMp h389 a393 ad394 v396.2) (bc - m387) (bs - m388) k28 Q else
 Q 0 (xMp h389 a393 ad394 v396.2)))) else
 B_L_law_1569 g l0 l1 l2 l3 l4 l5 (xMp h389 a393 ad394 v396.2) (bc - m387) (bs - m388) k28 Q) else
 Q 0 (xMp h389 a393 ad394 v396.2))))))))))))))
noncomputable def B_L_law_1637 (g : xm_G) (l0 : Option Nat) (l1 : Option Nat) (l2 : Option Nat) (l3 : Option Nat) (l4 : Option Nat) (l5 : Int32) (h : xm_H) (bc : Nat) (bs : Nat) (k28 : Int32 × xm_H × Nat × Nat → Prop) (Q : Int32 → xm_H → Prop) : Prop :=
 B_L_law_2924 g l0 l1 l2 l3 l4 l5 h bc bs k28 Q
noncomputable def B_L_law_1572 (g : xm_G) (l0 : Option Nat) (l1 : Option Nat) (l2 : Option Nat) (l3 : Option Nat) (l4 : Option Nat) (l5 : Int32) (h : xm_H) (bc : Nat) (bs : Nat) (k28 : Int32 × xm_H × Nat × Nat → Prop) (Q : Int32 → xm_H → Prop) : Prop :=
 xt_b l0 (fun a402 =>
 xt_b (xh_ai .int h a402 (l5 + 1)) (fun v403 =>
 xt_b (xh_ai .int h a402 (l5 + 2)) (fun v404 =>
 xt_c bc bs (fun m405 m406 => F_X0_decompose g l1 v403 v404 l3 h m405 m406 (fun v408 h407 =>
 xt_b (xh_ai .int h407 a402 (l5 + 1)) (fun v409 =>
 xt_b (xh_ai .int h407 a402 (l5 + 2)) (fun v410 =>
 xt_b l2 (fun a411 =>
 xt_m g h407 a411 (fun ad412 σ413 =>
 xt_b (F_X5_decompose v409 v410 σ413) (fun v414 =>
 xt_m g (xMp h407 a411 ad412 v414.2) a411 (fun ad415 σ416 =>
 xt_b (some (F_X5_thrown σ416)) (fun v417 =>
 (if v417 = v408 then
 (if v408 = 0 then
 xt_b l3 (fun a418 =>
 xt_b (xh_al (xMp h407 a411 ad412 v414.2) a418 0) (fun v419 =>
 (if (lg_cmp v419 v414.1.toInt64) = 0 then
 B_L_law_1637 g l0 l1 l2 l3 l4 l5 (xMp h407 a411 ad412 v414.2) (bc - m405) (bs - m406) k28 Q else
 Q 0 (xMp h407 a411 ad412 v414.2)))) else
 B_L_law_1637 g l0 l1 l2 l3 l4 l5 (xMp h407 a411 ad412 v414.2) (bc - m405) (bs - m406) k28 Q) else
 Q 0 (xMp h407 a411 ad412 v414.2))))))))))))))
noncomputable def B_L_law_1705 (g : xm_G) (l0 : Option Nat) (l1 : Option Nat) (l2 : Option Nat) (l3 : Option Nat) (l4 : Option Nat) (l5 : Int32) (h : xm_H) (bc : Nat) (bs : Nat) (k28 : Int32 × xm_H × Nat × Nat → Prop) (Q : Int32 → xm_H → Prop) : Prop :=
 B_L_law_2924 g l0 l1 l2 l3 l4 l5 h bc bs k28 Q
noncomputable def B_L_law_1640 (g : xm_G) (l0 : Option Nat) (l1 : Option Nat) (l2 : Option Nat) (l3 : Option Nat) (l4 : Option Nat) (l5 : Int32) (h : xm_H) (bc : Nat) (bs : Nat) (k28 : Int32 × xm_H × Nat × Nat → Prop) (Q : Int32 → xm_H → Prop) : Prop :=
 xt_b l0 (fun a420 =>
 xt_b (xh_ai .int h a420 (l5 + 1)) (fun v421 =>
 xt_b (xh_ai .int h a420 (l5 + 2)) (fun v422 =>
 xt_c bc bs (fun m423 m424 => F_X0_element g l1 v421 v422 l3 h m423 m424 (fun v426 h425 =>
 xt_b (xh_ai .int h425 a420 (l5 + 1)) (fun v427 =>
 xt_b (xh_ai .int h425 a420 (l5 + 2)) (fun v428 =>
 xt_b l2 (fun a429 =>
 xt_m g h425 a429 (fun ad430 σ431 =>
 xt_b (F_X5_element v427 v428 σ431) (fun v432 =>
 xt_m g (xMp h425 a429 ad430 v432.2) a429 (fun ad433 σ434 =>
 xt_b (some (F_X5_thrown σ434)) (fun v435 =>
 (if v435 = v426 then
 (if v426 = 0 then
 xt_b l3 (fun a436 =>
 xt_b (xh_al (xMp h425 a429 ad430 v432.2) a436 0) (fun v437 =>
 (if (lg_cmp v437 v432.1.toInt64) = 0 then
 B_L_law_1705 g l0 l1 l2 l3 l4 l5 (xMp h425 a429 ad430 v432.2) (bc - m423) (bs - m424) k28 Q else
 Q 0 (xMp h425 a429 ad430 v432.2)))) else
 B_L_law_1705 g l0 l1 l2 l3 l4 l5 (xMp h425 a429 ad430 v432.2) (bc - m423) (bs - m424) k28 Q) else
 Q 0 (xMp h425 a429 ad430 v432.2))))))))))))))
noncomputable def B_L_law_1708 (g : xm_G) (l0 : Option Nat) (l1 : Option Nat) (l2 : Option Nat) (l3 : Option Nat) (l4 : Option Nat) (l5 : Int32) (h : xm_H) (bc : Nat) (bs : Nat) (k28 : Int32 × xm_H × Nat × Nat → Prop) (Q : Int32 → xm_H → Prop) : Prop :=
 xt_b l0 (fun a438 =>
 xt_b (xh_ai .int h a438 (l5 + 1)) (fun v439 =>
 xt_b l1 (fun a440 =>
 xt_b (xh_is 0 h a440) (fun _ =>
 xt_c bc bs (fun m441 m442 => F_X1_weights g a440 v439 h m441 m442 (fun v444 h443 =>
 xt_b (xh_ai .int h443 a438 (l5 + 1)) (fun v445 =>
 xt_b l2 (fun a446 =>
 xt_m g h443 a446 (fun ad447 σ448 =>
 xt_b (F_X5_weights v445 σ448) (fun v449 =>
 (if v444 = v449.1 then
 B_L_law_2924 g l0 l1 l2 l3 l4 l5 (xMp h443 a446 ad447 v449.2) (bc - m441) (bs - m442) k28 Q else
 Q 0 (xMp h443 a446 ad447 v449.2))))))))))))
noncomputable def B_L_law_1786 (g : xm_G) (l0 : Option Nat) (l1 : Option Nat) (l2 : Option Nat) (l3 : Option Nat) (l4 : Option Nat) (l5 : Int32) (h : xm_H) (bc : Nat) (bs : Nat) (k28 : Int32 × xm_H × Nat × Nat → Prop) (Q : Int32 → xm_H → Prop) : Prop :=
 B_L_law_2924 g l0 l1 l2 l3 l4 l5 h bc bs k28 Q
noncomputable def B_L_law_1733 (g : xm_G) (l0 : Option Nat) (l1 : Option Nat) (l2 : Option Nat) (l3 : Option Nat) (l4 : Option Nat) (l5 : Int32) (h : xm_H) (bc : Nat) (bs : Nat) (k28 : Int32 × xm_H × Nat × Nat → Prop) (Q : Int32 → xm_H → Prop) : Prop :=
 xt_b l0 (fun a450 =>
 xt_b (xh_ai .int h a450 (l5 + 1)) (fun v451 =>
 xt_c bc bs (fun m452 m453 => F_X0_lightest g l1 v451 l3 h m452 m453 (fun v455 h454 =>
 xt_b (xh_ai .int h454 a450 (l5 + 1)) (fun v456 =>
 xt_b l2 (fun a457 =>
 xt_m g h454 a457 (fun ad458 σ459 =>
 xt_b (F_X5_lightest v456 σ459) (fun v460 =>
 xt_m g (xMp h454 a457 ad458 v460.2) a457 (fun ad461 σ462 =>
 xt_b (some (F_X5_thrown σ462)) (fun v463 =>
 (if v463 = v455 then
 (if v455 = 0 then
 xt_b l3 (fun a464 =>
 xt_b (xh_al (xMp h454 a457 ad458 v460.2) a464 0) (fun v465 =>
 (if (lg_cmp v465 v460.1.toInt64) = 0 then
 B_L_law_1786 g l0 l1 l2 l3 l4 l5 (xMp h454 a457 ad458 v460.2) (bc - m452) (bs - m453) k28 Q else
 Q 0 (xMp h454 a457 ad458 v460.2)))) else
 B_L_law_1786 g l0 l1 l2 l3 l4 l5 (xMp h454 a457 ad458 v460.2) (bc - m452) (bs - m453) k28 Q) else
 Q 0 (xMp h454 a457 ad458 v460.2))))))))))))
noncomputable def B_L_law_1890 (g : xm_G) (l0 : Option Nat) (l1 : Option Nat) (l2 : Option Nat) (l3 : Option Nat) (l4 : Option Nat) (l5 : Int32) (h : xm_H) (bc : Nat) (bs : Nat) (k28 : Int32 × xm_H × Nat × Nat → Prop) (Q : Int32 → xm_H → Prop) : Prop :=
 B_L_law_2924 g l0 l1 l2 l3 l4 l5 h bc bs k28 Q
noncomputable def B_L_law_1789 (g : xm_G) (l0 : Option Nat) (l1 : Option Nat) (l2 : Option Nat) (l3 : Option Nat) (l4 : Option Nat) (l5 : Int32) (h : xm_H) (bc : Nat) (bs : Nat) (k28 : Int32 × xm_H × Nat × Nat → Prop) (Q : Int32 → xm_H → Prop) : Prop :=
 xt_b l0 (fun a466 =>
 xt_b (xh_ai .int h a466 (l5 + 1)) (fun v467 =>
 xt_b (xh_ai .int h a466 (l5 + 2)) (fun v468 =>
 xt_b (xh_ai .int h a466 (l5 + 3)) (fun v469 =>
 xt_b (xh_ai .int h a466 (l5 + 4)) (fun v470 =>
 xt_b (xh_ai .int h a466 (l5 + 5)) (fun v471 =>
 xt_c bc bs (fun m472 m473 => F_X0_pushed g l1 v467 v468 v469 v470 v471 l3 h m472 m473 (fun v475 h474 =>
 xt_b (xh_ai .int h474 a466 (l5 + 1)) (fun v476 =>
 xt_b (xh_ai .int h474 a466 (l5 + 2)) (fun v477 =>
 xt_b (xh_ai .int h474 a466 (l5 + 3)) (fun v478 =>
 xt_b (xh_ai .int h474 a466 (l5 + 4)) (fun v479 =>
 xt_b (xh_ai .int h474 a466 (l5 + 5)) (fun v480 =>
 xt_b l2 (fun a481 =>
 xt_m g h474 a481 (fun ad482 σ483 =>
 xt_b (F_X5_pushed v476 v477 v478 v479 v480 σ483) (fun v484 =>
 xt_m g (xMp h474 a481 ad482 v484.2) a481 (fun ad485 σ486 =>
 xt_b (some (F_X5_thrown σ486)) (fun v487 =>
 (if v487 = v475 then
 (if v475 = 0 then
 xt_b l3 (fun a488 =>
 xt_b (xh_al (xMp h474 a481 ad482 v484.2) a488 0) (fun v489 =>
 (if (lg_cmp v489 v484.1.toInt64) = 0 then
 B_L_law_1890 g l0 l1 l2 l3 l4 l5 (xMp h474 a481 ad482 v484.2) (bc - m472) (bs - m473) k28 Q else
 Q 0 (xMp h474 a481 ad482 v484.2)))) else
 B_L_law_1890 g l0 l1 l2 l3 l4 l5 (xMp h474 a481 ad482 v484.2) (bc - m472) (bs - m473) k28 Q) else
 Q 0 (xMp h474 a481 ad482 v484.2))))))))))))))))))))
noncomputable def B_L_law_1994 (g : xm_G) (l0 : Option Nat) (l1 : Option Nat) (l2 : Option Nat) (l3 : Option Nat) (l4 : Option Nat) (l5 : Int32) (h : xm_H) (bc : Nat) (bs : Nat) (k28 : Int32 × xm_H × Nat × Nat → Prop) (Q : Int32 → xm_H → Prop) : Prop :=
 B_L_law_2924 g l0 l1 l2 l3 l4 l5 h bc bs k28 Q
noncomputable def B_L_law_1893 (g : xm_G) (l0 : Option Nat) (l1 : Option Nat) (l2 : Option Nat) (l3 : Option Nat) (l4 : Option Nat) (l5 : Int32) (h : xm_H) (bc : Nat) (bs : Nat) (k28 : Int32 × xm_H × Nat × Nat → Prop) (Q : Int32 → xm_H → Prop) : Prop :=
 xt_b l0 (fun a490 =>
 xt_b (xh_ai .int h a490 (l5 + 1)) (fun v491 =>
 xt_b (xh_ai .int h a490 (l5 + 2)) (fun v492 =>
 xt_b (xh_ai .int h a490 (l5 + 3)) (fun v493 =>
 xt_b (xh_ai .int h a490 (l5 + 4)) (fun v494 =>
 xt_b (xh_ai .int h a490 (l5 + 5)) (fun v495 =>
 xt_c bc bs (fun m496 m497 => F_X0_pulled g l1 v491 v492 v493 v494 v495 l3 h m496 m497 (fun v499 h498 =>
 xt_b (xh_ai .int h498 a490 (l5 + 1)) (fun v500 =>
 xt_b (xh_ai .int h498 a490 (l5 + 2)) (fun v501 =>
 xt_b (xh_ai .int h498 a490 (l5 + 3)) (fun v502 =>
 xt_b (xh_ai .int h498 a490 (l5 + 4)) (fun v503 =>
 xt_b (xh_ai .int h498 a490 (l5 + 5)) (fun v504 =>
 xt_b l2 (fun a505 =>
 xt_m g h498 a505 (fun ad506 σ507 =>
 xt_b (F_X5_pulled v500 v501 v502 v503 v504 σ507) (fun v508 =>
 xt_m g (xMp h498 a505 ad506 v508.2) a505 (fun ad509 σ510 =>
 xt_b (some (F_X5_thrown σ510)) (fun v511 =>
 (if v511 = v499 then
 (if v499 = 0 then
 xt_b l3 (fun a512 =>
 xt_b (xh_al (xMp h498 a505 ad506 v508.2) a512 0) (fun v513 =>
 (if (lg_cmp v513 v508.1.toInt64) = 0 then
 B_L_law_1994 g l0 l1 l2 l3 l4 l5 (xMp h498 a505 ad506 v508.2) (bc - m496) (bs - m497) k28 Q else
 Q 0 (xMp h498 a505 ad506 v508.2)))) else
 B_L_law_1994 g l0 l1 l2 l3 l4 l5 (xMp h498 a505 ad506 v508.2) (bc - m496) (bs - m497) k28 Q) else
 Q 0 (xMp h498 a505 ad506 v508.2))))))))))))))))))))
noncomputable def B_L_law_2062 (g : xm_G) (l0 : Option Nat) (l1 : Option Nat) (l2 : Option Nat) (l3 : Option Nat) (l4 : Option Nat) (l5 : Int32) (h : xm_H) (bc : Nat) (bs : Nat) (k28 : Int32 × xm_H × Nat × Nat → Prop) (Q : Int32 → xm_H → Prop) : Prop :=
 B_L_law_2924 g l0 l1 l2 l3 l4 l5 h bc bs k28 Q
noncomputable def B_L_law_1997 (g : xm_G) (l0 : Option Nat) (l1 : Option Nat) (l2 : Option Nat) (l3 : Option Nat) (l4 : Option Nat) (l5 : Int32) (h : xm_H) (bc : Nat) (bs : Nat) (k28 : Int32 × xm_H × Nat × Nat → Prop) (Q : Int32 → xm_H → Prop) : Prop :=
 xt_b l0 (fun a514 =>
 xt_b (xh_ai .int h a514 (l5 + 1)) (fun v515 =>
 xt_b (xh_ai .int h a514 (l5 + 2)) (fun v516 =>
 xt_c bc bs (fun m517 m518 => F_X0_partner g l1 v515 v516 l3 h m517 m518 (fun v520 h519 =>
 xt_b (xh_ai .int h519 a514 (l5 + 1)) (fun v521 =>
 xt_b (xh_ai .int h519 a514 (l5 + 2)) (fun v522 =>
 xt_b l2 (fun a523 =>
 xt_m g h519 a523 (fun ad524 σ525 =>
 xt_b (F_X5_partner v521 v522 σ525) (fun v526 =>
 xt_m g (xMp h519 a523 ad524 v526.2) a523 (fun ad527 σ528 =>
 xt_b (some (F_X5_thrown σ528)) (fun v529 =>
 (if v529 = v520 then
 (if v520 = 0 then
 xt_b l3 (fun a530 =>
 xt_b (xh_al (xMp h519 a523 ad524 v526.2) a530 0) (fun v531 =>
 (if (lg_cmp v531 v526.1.toInt64) = 0 then
 B_L_law_2062 g l0 l1 l2 l3 l4 l5 (xMp h519 a523 ad524 v526.2) (bc - m517) (bs - m518) k28 Q else
 Q 0 (xMp h519 a523 ad524 v526.2)))) else
 B_L_law_2062 g l0 l1 l2 l3 l4 l5 (xMp h519 a523 ad524 v526.2) (bc - m517) (bs - m518) k28 Q) else
 Q 0 (xMp h519 a523 ad524 v526.2))))))))))))))
noncomputable def B_L_law_2118 (g : xm_G) (l0 : Option Nat) (l1 : Option Nat) (l2 : Option Nat) (l3 : Option Nat) (l4 : Option Nat) (l5 : Int32) (h : xm_H) (bc : Nat) (bs : Nat) (k28 : Int32 × xm_H × Nat × Nat → Prop) (Q : Int32 → xm_H → Prop) : Prop :=
 B_L_law_2924 g l0 l1 l2 l3 l4 l5 h bc bs k28 Q
noncomputable def B_L_law_2065 (g : xm_G) (l0 : Option Nat) (l1 : Option Nat) (l2 : Option Nat) (l3 : Option Nat) (l4 : Option Nat) (l5 : Int32) (h : xm_H) (bc : Nat) (bs : Nat) (k28 : Int32 × xm_H × Nat × Nat → Prop) (Q : Int32 → xm_H → Prop) : Prop :=
 xt_b l0 (fun a532 =>
 xt_b (xh_ai .int h a532 (l5 + 1)) (fun v533 =>
 xt_c bc bs (fun m534 m535 => F_X0_entropy g l1 v533 l3 h m534 m535 (fun v537 h536 =>
 xt_b (xh_ai .int h536 a532 (l5 + 1)) (fun v538 =>
 xt_b l2 (fun a539 =>
 xt_m g h536 a539 (fun ad540 σ541 =>
 xt_b (F_X5_entropy v538 σ541) (fun v542 =>
 xt_m g (xMp h536 a539 ad540 v542.2) a539 (fun ad543 σ544 =>
 xt_b (some (F_X5_thrown σ544)) (fun v545 =>
 (if v545 = v537 then
 (if v537 = 0 then
 xt_b l3 (fun a546 =>
 xt_b (xh_al (xMp h536 a539 ad540 v542.2) a546 0) (fun v547 =>
 (if (lg_cmp v547 v542.1.toInt64) = 0 then
 B_L_law_2118 g l0 l1 l2 l3 l4 l5 (xMp h536 a539 ad540 v542.2) (bc - m534) (bs - m535) k28 Q else
 Q 0 (xMp h536 a539 ad540 v542.2)))) else
 B_L_law_2118 g l0 l1 l2 l3 l4 l5 (xMp h536 a539 ad540 v542.2) (bc - m534) (bs - m535) k28 Q) else
 Q 0 (xMp h536 a539 ad540 v542.2))))))))))))
noncomputable def B_L_law_2121 (g : xm_G) (l0 : Option Nat) (l1 : Option Nat) (l2 : Option Nat) (l3 : Option Nat) (l4 : Option Nat) (l5 : Int32) (h : xm_H) (bc : Nat) (bs : Nat) (k28 : Int32 × xm_H × Nat × Nat → Prop) (Q : Int32 → xm_H → Prop) : Prop :=
 xt_b l1 (fun a548 =>
 xt_b (xh_is 0 h a548) (fun _ =>
 xt_c bc bs (fun m549 m550 => F_X1_freeQubits g a548 h m549 m550 (fun v552 h551 =>
 xt_b l2 (fun a553 =>
 xt_m g h551 a553 (fun ad554 σ555 =>
 xt_b (F_X5_freeQubits σ555) (fun v556 =>
 (if v552 = v556.1 then
 B_L_law_2924 g l0 l1 l2 l3 l4 l5 (xMp h551 a553 ad554 v556.2) (bc - m549) (bs - m550) k28 Q else
 Q 0 (xMp h551 a553 ad554 v556.2)))))))))
noncomputable def B_L_law_2187 (g : xm_G) (l0 : Option Nat) (l1 : Option Nat) (l2 : Option Nat) (l3 : Option Nat) (l4 : Option Nat) (l5 : Int32) (h : xm_H) (bc : Nat) (bs : Nat) (k28 : Int32 × xm_H × Nat × Nat → Prop) (Q : Int32 → xm_H → Prop) : Prop :=
 B_L_law_2924 g l0 l1 l2 l3 l4 l5 h bc bs k28 Q
noncomputable def B_L_law_2134 (g : xm_G) (l0 : Option Nat) (l1 : Option Nat) (l2 : Option Nat) (l3 : Option Nat) (l4 : Option Nat) (l5 : Int32) (h : xm_H) (bc : Nat) (bs : Nat) (k28 : Int32 × xm_H × Nat × Nat → Prop) (Q : Int32 → xm_H → Prop) : Prop :=
 xt_b l0 (fun a557 =>
 xt_b (xh_ai .int h a557 (l5 + 1)) (fun v558 =>
 xt_c bc bs (fun m559 m560 => F_X0_block g l1 v558 l3 h m559 m560 (fun v562 h561 =>
 xt_b (xh_ai .int h561 a557 (l5 + 1)) (fun v563 =>
 xt_b l2 (fun a564 =>
 xt_m g h561 a564 (fun ad565 σ566 =>
 xt_b (F_X5_block v563 σ566) (fun v567 =>
 xt_m g (xMp h561 a564 ad565 v567.2) a564 (fun ad568 σ569 =>
 xt_b (some (F_X5_thrown σ569)) (fun v570 =>
 (if v570 = v562 then
 (if v562 = 0 then
 xt_b l3 (fun a571 =>
 xt_b (xh_al (xMp h561 a564 ad565 v567.2) a571 0) (fun v572 =>
 (if (lg_cmp v572 v567.1.toInt64) = 0 then
 B_L_law_2187 g l0 l1 l2 l3 l4 l5 (xMp h561 a564 ad565 v567.2) (bc - m559) (bs - m560) k28 Q else
 Q 0 (xMp h561 a564 ad565 v567.2)))) else
 B_L_law_2187 g l0 l1 l2 l3 l4 l5 (xMp h561 a564 ad565 v567.2) (bc - m559) (bs - m560) k28 Q) else
 Q 0 (xMp h561 a564 ad565 v567.2))))))))))))
noncomputable def B_L_law_2255 (g : xm_G) (l0 : Option Nat) (l1 : Option Nat) (l2 : Option Nat) (l3 : Option Nat) (l4 : Option Nat) (l5 : Int32) (h : xm_H) (bc : Nat) (bs : Nat) (k28 : Int32 × xm_H × Nat × Nat → Prop) (Q : Int32 → xm_H → Prop) : Prop :=
 B_L_law_2924 g l0 l1 l2 l3 l4 l5 h bc bs k28 Q
noncomputable def B_L_law_2190 (g : xm_G) (l0 : Option Nat) (l1 : Option Nat) (l2 : Option Nat) (l3 : Option Nat) (l4 : Option Nat) (l5 : Int32) (h : xm_H) (bc : Nat) (bs : Nat) (k28 : Int32 × xm_H × Nat × Nat → Prop) (Q : Int32 → xm_H → Prop) : Prop :=
 xt_b l0 (fun a573 =>
 xt_b (xh_ai .int h a573 (l5 + 1)) (fun v574 =>
 xt_b (xh_ai .int h a573 (l5 + 2)) (fun v575 =>
 xt_c bc bs (fun m576 m577 => F_X0_shared g l1 v574 v575 l3 h m576 m577 (fun v579 h578 =>
 xt_b (xh_ai .int h578 a573 (l5 + 1)) (fun v580 =>
 xt_b (xh_ai .int h578 a573 (l5 + 2)) (fun v581 =>
 xt_b l2 (fun a582 =>
 xt_m g h578 a582 (fun ad583 σ584 =>
 xt_b (F_X5_shared v580 v581 σ584) (fun v585 =>
 xt_m g (xMp h578 a582 ad583 v585.2) a582 (fun ad586 σ587 =>
 xt_b (some (F_X5_thrown σ587)) (fun v588 =>
 (if v588 = v579 then
 (if v579 = 0 then
 xt_b l3 (fun a589 =>
 xt_b (xh_al (xMp h578 a582 ad583 v585.2) a589 0) (fun v590 =>
 (if (lg_cmp v590 v585.1.toInt64) = 0 then
 B_L_law_2255 g l0 l1 l2 l3 l4 l5 (xMp h578 a582 ad583 v585.2) (bc - m576) (bs - m577) k28 Q else
 Q 0 (xMp h578 a582 ad583 v585.2)))) else
 B_L_law_2255 g l0 l1 l2 l3 l4 l5 (xMp h578 a582 ad583 v585.2) (bc - m576) (bs - m577) k28 Q) else
 Q 0 (xMp h578 a582 ad583 v585.2))))))))))))))
noncomputable def B_L_law_2299 (g : xm_G) (l0 : Option Nat) (l1 : Option Nat) (l2 : Option Nat) (l3 : Option Nat) (l4 : Option Nat) (l5 : Int32) (h : xm_H) (bc : Nat) (bs : Nat) (k28 : Int32 × xm_H × Nat × Nat → Prop) (Q : Int32 → xm_H → Prop) : Prop :=
 B_L_law_2924 g l0 l1 l2 l3 l4 l5 h bc bs k28 Q
noncomputable def B_L_law_2258 (g : xm_G) (l0 : Option Nat) (l1 : Option Nat) (l2 : Option Nat) (l3 : Option Nat) (l4 : Option Nat) (l5 : Int32) (h : xm_H) (bc : Nat) (bs : Nat) (k28 : Int32 × xm_H × Nat × Nat → Prop) (Q : Int32 → xm_H → Prop) : Prop :=
 xt_c bc bs (fun m591 m592 => F_X0_closestPair g l1 l3 h m591 m592 (fun v594 h593 =>
 xt_b l2 (fun a595 =>
 xt_m g h593 a595 (fun ad596 σ597 =>
 xt_b (F_X5_closestPair σ597) (fun v598 =>
 xt_m g (xMp h593 a595 ad596 v598.2) a595 (fun ad599 σ600 =>
 xt_b (some (F_X5_thrown σ600)) (fun v601 =>
 (if v601 = v594 then
 (if v594 = 0 then
 xt_b l3 (fun a602 =>
 xt_b (xh_al (xMp h593 a595 ad596 v598.2) a602 0) (fun v603 =>
 (if (lg_cmp v603 v598.1.toInt64) = 0 then
 B_L_law_2299 g l0 l1 l2 l3 l4 l5 (xMp h593 a595 ad596 v598.2) (bc - m591) (bs - m592) k28 Q else
 Q 0 (xMp h593 a595 ad596 v598.2)))) else
 B_L_law_2299 g l0 l1 l2 l3 l4 l5 (xMp h593 a595 ad596 v598.2) (bc - m591) (bs - m592) k28 Q) else
 Q 0 (xMp h593 a595 ad596 v598.2)))))))))
noncomputable def B_L_law_2355 (g : xm_G) (l0 : Option Nat) (l1 : Option Nat) (l2 : Option Nat) (l3 : Option Nat) (l4 : Option Nat) (l5 : Int32) (h : xm_H) (bc : Nat) (bs : Nat) (k28 : Int32 × xm_H × Nat × Nat → Prop) (Q : Int32 → xm_H → Prop) : Prop :=
 B_L_law_2924 g l0 l1 l2 l3 l4 l5 h bc bs k28 Q
noncomputable def B_L_law_2302 (g : xm_G) (l0 : Option Nat) (l1 : Option Nat) (l2 : Option Nat) (l3 : Option Nat) (l4 : Option Nat) (l5 : Int32) (h : xm_H) (bc : Nat) (bs : Nat) (k28 : Int32 × xm_H × Nat × Nat → Prop) (Q : Int32 → xm_H → Prop) : Prop :=
 xt_b l0 (fun a604 =>
 xt_b (xh_ai .int h a604 (l5 + 1)) (fun v605 =>
 xt_c bc bs (fun m606 m607 => F_X0_mostEntangled g l1 v605 l3 h m606 m607 (fun v609 h608 =>
 xt_b (xh_ai .int h608 a604 (l5 + 1)) (fun v610 =>
 xt_b l2 (fun a611 =>
 xt_m g h608 a611 (fun ad612 σ613 =>
 xt_b (F_X5_mostEntangled v610 σ613) (fun v614 =>
 xt_m g (xMp h608 a611 ad612 v614.2) a611 (fun ad615 σ616 =>
 xt_b (some (F_X5_thrown σ616)) (fun v617 =>
 (if v617 = v609 then
 (if v609 = 0 then
 xt_b l3 (fun a618 =>
 xt_b (xh_al (xMp h608 a611 ad612 v614.2) a618 0) (fun v619 =>
 (if (lg_cmp v619 v614.1.toInt64) = 0 then
 B_L_law_2355 g l0 l1 l2 l3 l4 l5 (xMp h608 a611 ad612 v614.2) (bc - m606) (bs - m607) k28 Q else
 Q 0 (xMp h608 a611 ad612 v614.2)))) else
 B_L_law_2355 g l0 l1 l2 l3 l4 l5 (xMp h608 a611 ad612 v614.2) (bc - m606) (bs - m607) k28 Q) else
 Q 0 (xMp h608 a611 ad612 v614.2))))))))))))
noncomputable def B_L_law_2358 (g : xm_G) (l0 : Option Nat) (l1 : Option Nat) (l2 : Option Nat) (l3 : Option Nat) (l4 : Option Nat) (l5 : Int32) (h : xm_H) (bc : Nat) (bs : Nat) (k28 : Int32 × xm_H × Nat × Nat → Prop) (Q : Int32 → xm_H → Prop) : Prop :=
 xt_b l1 (fun a620 =>
 xt_b (xh_is 0 h a620) (fun _ =>
 xt_c bc bs (fun m621 m622 => F_X1_spread g a620 h m621 m622 (fun v624 h623 =>
 xt_b l2 (fun a625 =>
 xt_m g h623 a625 (fun ad626 σ627 =>
 xt_b (F_X5_spread σ627) (fun v628 =>
 (if v624 = v628.1 then
 B_L_law_2924 g l0 l1 l2 l3 l4 l5 (xMp h623 a625 ad626 v628.2) (bc - m621) (bs - m622) k28 Q else
 Q 0 (xMp h623 a625 ad626 v628.2)))))))))
noncomputable def B_L_law_2445 (g : xm_G) (l0 : Option Nat) (l1 : Option Nat) (l2 : Option Nat) (l3 : Option Nat) (l4 : Option Nat) (l5 : Int32) (h : xm_H) (bc : Nat) (bs : Nat) (k28 : Int32 × xm_H × Nat × Nat → Prop) (Q : Int32 → xm_H → Prop) : Prop :=
 B_L_law_2924 g l0 l1 l2 l3 l4 l5 h bc bs k28 Q
noncomputable def B_L_law_2371 (g : xm_G) (l0 : Option Nat) (l1 : Option Nat) (l2 : Option Nat) (l3 : Option Nat) (l4 : Option Nat) (l5 : Int32) (h : xm_H) (bc : Nat) (bs : Nat) (k28 : Int32 × xm_H × Nat × Nat → Prop) (Q : Int32 → xm_H → Prop) : Prop :=
 xt_b l0 (fun a629 =>
 xt_b (xh_ai .int h a629 (l5 + 1)) (fun v630 =>
 xt_c bc bs (fun m631 m632 => F_X0_probability g l1 v630 l4 h m631 m632 (fun v634 h633 =>
 xt_b (xh_ai .int h633 a629 (l5 + 1)) (fun v635 =>
 xt_b l2 (fun a636 =>
 xt_m g h633 a636 (fun ad637 σ638 =>
 xt_b (F_X5_probability v635 σ638) (fun v639 =>
 xt_m g (xMp h633 a636 ad637 v639.2) a636 (fun ad640 σ641 =>
 xt_b (some (F_X5_thrown σ641)) (fun v642 =>
 (if v642 = v634 then
 (if v634 = 0 then
 xt_b l4 (fun a643 =>
 xt_b (xh_ad (xMp h633 a636 ad637 v639.2) a643 0) (fun v644 =>
 (if (Op.cmpValue (FP.dcmp v644 v639.1) .l) = 0 then
 B_L_law_2445 g l0 l1 l2 l3 l4 l5 (xMp h633 a636 ad637 v639.2) (bc - m631) (bs - m632) k28 Q else
 xt_b (xh_ad (xMp h633 a636 ad637 v639.2) a643 0) (fun v645 =>
 xt_b (xh_ad (xMp h633 a636 ad637 v639.2) a643 0) (fun v646 =>
 (if (Op.cmpValue (FP.dcmp v645 v646) .l) = 0 then
 Q 0 (xMp h633 a636 ad637 v639.2) else
 (if (Op.cmpValue (FP.dcmp v639.1 v639.1) .l) = 0 then
 Q 0 (xMp h633 a636 ad637 v639.2) else
 B_L_law_2445 g l0 l1 l2 l3 l4 l5 (xMp h633 a636 ad637 v639.2) (bc - m631) (bs - m632) k28 Q))))))) else
 B_L_law_2445 g l0 l1 l2 l3 l4 l5 (xMp h633 a636 ad637 v639.2) (bc - m631) (bs - m632) k28 Q) else
 Q 0 (xMp h633 a636 ad637 v639.2))))))))))))
noncomputable def B_L_law_2448 (g : xm_G) (l0 : Option Nat) (l1 : Option Nat) (l2 : Option Nat) (l3 : Option Nat) (l4 : Option Nat) (l5 : Int32) (h : xm_H) (bc : Nat) (bs : Nat) (k28 : Int32 × xm_H × Nat × Nat → Prop) (Q : Int32 → xm_H → Prop) : Prop :=
 xt_b l0 (fun a647 =>
 xt_b (xh_ai .int h a647 (l5 + 1)) (fun v648 =>
 xt_b l1 (fun a649 =>
 xt_b (xh_is 0 h a649) (fun _ =>
 xt_c bc bs (fun m650 m651 => F_X1_possible g a649 v648 h m650 m651 (fun v653 h652 =>
 xt_b (xh_ai .int h652 a647 (l5 + 1)) (fun v654 =>
 xt_b l2 (fun a655 =>
 xt_m g h652 a655 (fun ad656 σ657 =>
 xt_b (F_X5_possible v654 σ657) (fun v658 =>
 (if v653 = v658.1 then
 B_L_law_2924 g l0 l1 l2 l3 l4 l5 (xMp h652 a655 ad656 v658.2) (bc - m650) (bs - m651) k28 Q else
 Q 0 (xMp h652 a655 ad656 v658.2))))))))))))
noncomputable def B_L_law_2533 (g : xm_G) (l0 : Option Nat) (l1 : Option Nat) (l2 : Option Nat) (l3 : Option Nat) (l4 : Option Nat) (l5 : Int32) (h : xm_H) (bc : Nat) (bs : Nat) (k28 : Int32 × xm_H × Nat × Nat → Prop) (Q : Int32 → xm_H → Prop) : Prop :=
 B_L_law_2924 g l0 l1 l2 l3 l4 l5 h bc bs k28 Q
noncomputable def B_L_law_2527 (g : xm_G) (l0 : Option Nat) (l1 : Option Nat) (l2 : Option Nat) (l3 : Option Nat) (l4 : Option Nat) (l5 : Int32) (s0 : Int64) (s1 : Int64) (h : xm_H) (bc : Nat) (bs : Nat) (k28 : Int32 × xm_H × Nat × Nat → Prop) (Q : Int32 → xm_H → Prop) : Prop :=
 (if (lg_cmp s0 s1) = 0 then
 B_L_law_2533 g l0 l1 l2 l3 l4 l5 h bc bs k28 Q else
 Q 0 h)
noncomputable def B_L_law_2473 (g : xm_G) (l0 : Option Nat) (l1 : Option Nat) (l2 : Option Nat) (l3 : Option Nat) (l4 : Option Nat) (l5 : Int32) (h : xm_H) (bc : Nat) (bs : Nat) (k28 : Int32 × xm_H × Nat × Nat → Prop) (Q : Int32 → xm_H → Prop) : Prop :=
 xt_b l0 (fun a659 =>
 xt_b (xh_ai .int h a659 (l5 + 1)) (fun v660 =>
 xt_c bc bs (fun m661 m662 => F_X0_keep g l1 v660 l3 h m661 m662 (fun v664 h663 =>
 xt_b (xh_ai .int h663 a659 (l5 + 1)) (fun v665 =>
 xt_b l2 (fun a666 =>
 xt_m g h663 a666 (fun ad667 σ668 =>
 xt_b (F_X5_keep v665 σ668) (fun v669 =>
 xt_m g (xMp h663 a666 ad667 v669.2) a666 (fun ad670 σ671 =>
 xt_b (some (F_X5_thrown σ671)) (fun v672 =>
 (if v672 = v664 then
 (if v664 = 0 then
 xt_b l3 (fun a673 =>
 xt_b (xh_al (xMp h663 a666 ad667 v669.2) a673 0) (fun v674 =>
 B_L_law_2527 g l0 l1 l2 l3 l4 l5 v674 (if v669.1 = 0 then 0 else 1) (xMp h663 a666 ad667 v669.2) (bc - m661) (bs - m662) k28 Q)) else
 B_L_law_2533 g l0 l1 l2 l3 l4 l5 (xMp h663 a666 ad667 v669.2) (bc - m661) (bs - m662) k28 Q) else
 Q 0 (xMp h663 a666 ad667 v669.2))))))))))))
noncomputable def B_L_law_2596 (g : xm_G) (l0 : Option Nat) (l1 : Option Nat) (l2 : Option Nat) (l3 : Option Nat) (l4 : Option Nat) (l5 : Int32) (h : xm_H) (bc : Nat) (bs : Nat) (k28 : Int32 × xm_H × Nat × Nat → Prop) (Q : Int32 → xm_H → Prop) : Prop :=
 B_L_law_2924 g l0 l1 l2 l3 l4 l5 h bc bs k28 Q
noncomputable def B_L_law_2590 (g : xm_G) (l0 : Option Nat) (l1 : Option Nat) (l2 : Option Nat) (l3 : Option Nat) (l4 : Option Nat) (l5 : Int32) (s0 : Int64) (s1 : Int64) (h : xm_H) (bc : Nat) (bs : Nat) (k28 : Int32 × xm_H × Nat × Nat → Prop) (Q : Int32 → xm_H → Prop) : Prop :=
 (if (lg_cmp s0 s1) = 0 then
 B_L_law_2596 g l0 l1 l2 l3 l4 l5 h bc bs k28 Q else
 Q 0 h)
noncomputable def B_L_law_2536 (g : xm_G) (l0 : Option Nat) (l1 : Option Nat) (l2 : Option Nat) (l3 : Option Nat) (l4 : Option Nat) (l5 : Int32) (h : xm_H) (bc : Nat) (bs : Nat) (k28 : Int32 × xm_H × Nat × Nat → Prop) (Q : Int32 → xm_H → Prop) : Prop :=
 xt_b l0 (fun a675 =>
 xt_b (xh_ai .int h a675 (l5 + 1)) (fun v676 =>
 xt_c bc bs (fun m677 m678 => F_X0_isSame g l1 v676 l3 h m677 m678 (fun v680 h679 =>
 xt_b (xh_ai .int h679 a675 (l5 + 1)) (fun v681 =>
 xt_b l2 (fun a682 =>
 xt_m g h679 a682 (fun ad683 σ684 =>
 xt_b (F_X5_isSame v681 σ684) (fun v685 =>
 xt_m g (xMp h679 a682 ad683 v685.2) a682 (fun ad686 σ687 =>
 xt_b (some (F_X5_thrown σ687)) (fun v688 =>
 (if v688 = v680 then
 (if v680 = 0 then
 xt_b l3 (fun a689 =>
 xt_b (xh_al (xMp h679 a682 ad683 v685.2) a689 0) (fun v690 =>
 B_L_law_2590 g l0 l1 l2 l3 l4 l5 v690 (if v685.1 = 0 then 0 else 1) (xMp h679 a682 ad683 v685.2) (bc - m677) (bs - m678) k28 Q)) else
 B_L_law_2596 g l0 l1 l2 l3 l4 l5 (xMp h679 a682 ad683 v685.2) (bc - m677) (bs - m678) k28 Q) else
 Q 0 (xMp h679 a682 ad683 v685.2))))))))))))
noncomputable def B_L_law_2652 (g : xm_G) (l0 : Option Nat) (l1 : Option Nat) (l2 : Option Nat) (l3 : Option Nat) (l4 : Option Nat) (l5 : Int32) (h : xm_H) (bc : Nat) (bs : Nat) (k28 : Int32 × xm_H × Nat × Nat → Prop) (Q : Int32 → xm_H → Prop) : Prop :=
 B_L_law_2924 g l0 l1 l2 l3 l4 l5 h bc bs k28 Q
noncomputable def B_L_law_2599 (g : xm_G) (l0 : Option Nat) (l1 : Option Nat) (l2 : Option Nat) (l3 : Option Nat) (l4 : Option Nat) (l5 : Int32) (h : xm_H) (bc : Nat) (bs : Nat) (k28 : Int32 × xm_H × Nat × Nat → Prop) (Q : Int32 → xm_H → Prop) : Prop :=
 xt_b l0 (fun a691 =>
 xt_b (xh_ai .int h a691 (l5 + 1)) (fun v692 =>
 xt_c bc bs (fun m693 m694 => F_X0_overlap g l1 v692 l3 h m693 m694 (fun v696 h695 =>
 xt_b (xh_ai .int h695 a691 (l5 + 1)) (fun v697 =>
 xt_b l2 (fun a698 =>
 xt_m g h695 a698 (fun ad699 σ700 =>
 xt_b (F_X5_overlap v697 σ700) (fun v701 =>
 xt_m g (xMp h695 a698 ad699 v701.2) a698 (fun ad702 σ703 =>
 xt_b (some (F_X5_thrown σ703)) (fun v704 =>
 (if v704 = v696 then
 (if v696 = 0 then
 xt_b l3 (fun a705 =>
 xt_b (xh_al (xMp h695 a698 ad699 v701.2) a705 0) (fun v706 =>
 (if (lg_cmp v706 v701.1.toInt64) = 0 then
 B_L_law_2652 g l0 l1 l2 l3 l4 l5 (xMp h695 a698 ad699 v701.2) (bc - m693) (bs - m694) k28 Q else
 Q 0 (xMp h695 a698 ad699 v701.2)))) else
 B_L_law_2652 g l0 l1 l2 l3 l4 l5 (xMp h695 a698 ad699 v701.2) (bc - m693) (bs - m694) k28 Q) else
 Q 0 (xMp h695 a698 ad699 v701.2))))))))))))
noncomputable def B_L_law_2708 (g : xm_G) (l0 : Option Nat) (l1 : Option Nat) (l2 : Option Nat) (l3 : Option Nat) (l4 : Option Nat) (l5 : Int32) (h : xm_H) (bc : Nat) (bs : Nat) (k28 : Int32 × xm_H × Nat × Nat → Prop) (Q : Int32 → xm_H → Prop) : Prop :=
 B_L_law_2924 g l0 l1 l2 l3 l4 l5 h bc bs k28 Q
noncomputable def B_L_law_2655 (g : xm_G) (l0 : Option Nat) (l1 : Option Nat) (l2 : Option Nat) (l3 : Option Nat) (l4 : Option Nat) (l5 : Int32) (h : xm_H) (bc : Nat) (bs : Nat) (k28 : Int32 × xm_H × Nat × Nat → Prop) (Q : Int32 → xm_H → Prop) : Prop :=
 xt_b l0 (fun a707 =>
 xt_b (xh_ai .int h a707 (l5 + 1)) (fun v708 =>
 xt_c bc bs (fun m709 m710 => F_X0_agreeing g l1 v708 l3 h m709 m710 (fun v712 h711 =>
 xt_b (xh_ai .int h711 a707 (l5 + 1)) (fun v713 =>
 xt_b l2 (fun a714 =>
 xt_m g h711 a714 (fun ad715 σ716 =>
 xt_b (F_X5_agreeing v713 σ716) (fun v717 =>
 xt_m g (xMp h711 a714 ad715 v717.2) a714 (fun ad718 σ719 =>
 xt_b (some (F_X5_thrown σ719)) (fun v720 =>
 (if v720 = v712 then
 (if v712 = 0 then
 xt_b l3 (fun a721 =>
 xt_b (xh_al (xMp h711 a714 ad715 v717.2) a721 0) (fun v722 =>
 (if (lg_cmp v722 v717.1.toInt64) = 0 then
 B_L_law_2708 g l0 l1 l2 l3 l4 l5 (xMp h711 a714 ad715 v717.2) (bc - m709) (bs - m710) k28 Q else
 Q 0 (xMp h711 a714 ad715 v717.2)))) else
 B_L_law_2708 g l0 l1 l2 l3 l4 l5 (xMp h711 a714 ad715 v717.2) (bc - m709) (bs - m710) k28 Q) else
 Q 0 (xMp h711 a714 ad715 v717.2))))))))))))
noncomputable def B_L_law_2764 (g : xm_G) (l0 : Option Nat) (l1 : Option Nat) (l2 : Option Nat) (l3 : Option Nat) (l4 : Option Nat) (l5 : Int32) (h : xm_H) (bc : Nat) (bs : Nat) (k28 : Int32 × xm_H × Nat × Nat → Prop) (Q : Int32 → xm_H → Prop) : Prop :=
 B_L_law_2924 g l0 l1 l2 l3 l4 l5 h bc bs k28 Q
noncomputable def B_L_law_2711 (g : xm_G) (l0 : Option Nat) (l1 : Option Nat) (l2 : Option Nat) (l3 : Option Nat) (l4 : Option Nat) (l5 : Int32) (h : xm_H) (bc : Nat) (bs : Nat) (k28 : Int32 × xm_H × Nat × Nat → Prop) (Q : Int32 → xm_H → Prop) : Prop :=
 xt_b l0 (fun a723 =>
 xt_b (xh_ai .int h a723 (l5 + 1)) (fun v724 =>
 xt_c bc bs (fun m725 m726 => F_X0_outsiders g l1 v724 l3 h m725 m726 (fun v728 h727 =>
 xt_b (xh_ai .int h727 a723 (l5 + 1)) (fun v729 =>
 xt_b l2 (fun a730 =>
 xt_m g h727 a730 (fun ad731 σ732 =>
 xt_b (F_X5_outsiders v729 σ732) (fun v733 =>
 xt_m g (xMp h727 a730 ad731 v733.2) a730 (fun ad734 σ735 =>
 xt_b (some (F_X5_thrown σ735)) (fun v736 =>
 (if v736 = v728 then
 (if v728 = 0 then
 xt_b l3 (fun a737 =>
 xt_b (xh_al (xMp h727 a730 ad731 v733.2) a737 0) (fun v738 =>
 (if (lg_cmp v738 v733.1.toInt64) = 0 then
 B_L_law_2764 g l0 l1 l2 l3 l4 l5 (xMp h727 a730 ad731 v733.2) (bc - m725) (bs - m726) k28 Q else
 Q 0 (xMp h727 a730 ad731 v733.2)))) else
 B_L_law_2764 g l0 l1 l2 l3 l4 l5 (xMp h727 a730 ad731 v733.2) (bc - m725) (bs - m726) k28 Q) else
 Q 0 (xMp h727 a730 ad731 v733.2))))))))))))
noncomputable def B_L_law_2842 (g : xm_G) (l0 : Option Nat) (l1 : Option Nat) (l2 : Option Nat) (l3 : Option Nat) (l4 : Option Nat) (l5 : Int32) (h : xm_H) (bc : Nat) (bs : Nat) (k28 : Int32 × xm_H × Nat × Nat → Prop) (Q : Int32 → xm_H → Prop) : Prop :=
 B_L_law_2924 g l0 l1 l2 l3 l4 l5 h bc bs k28 Q
noncomputable def B_L_law_2767 (g : xm_G) (l0 : Option Nat) (l1 : Option Nat) (l2 : Option Nat) (l3 : Option Nat) (l4 : Option Nat) (l5 : Int32) (h : xm_H) (bc : Nat) (bs : Nat) (k28 : Int32 × xm_H × Nat × Nat → Prop) (Q : Int32 → xm_H → Prop) : Prop :=
 xt_b l0 (fun a739 =>
 xt_b (xh_ai .int h a739 (l5 + 1)) (fun v740 =>
 xt_c bc bs (fun m741 m742 => F_X0_innerSquare g l1 v740 l4 h m741 m742 (fun v744 h743 =>
 xt_b (xh_ai .int h743 a739 (l5 + 1)) (fun v745 =>
 xt_b l2 (fun a746 =>
 xt_m g h743 a746 (fun ad747 σ748 =>
 xt_b (F_X5_innerSquare v745 σ748) (fun v749 =>
 xt_m g (xMp h743 a746 ad747 v749.2) a746 (fun ad750 σ751 =>
 xt_b (some (F_X5_thrown σ751)) (fun v752 =>
 (if v752 = v744 then
 (if v744 = 0 then
 xt_b l4 (fun a753 =>
 xt_b (xh_ad (xMp h743 a746 ad747 v749.2) a753 0) (fun v754 =>
 xt_b (xo_g (vf_n64 (FP.f2d v749.1))) (fun u755 =>
 (if (Op.cmpValue (FP.dcmp v754 (FP.f2d v749.1)) .l) = 0 then
 B_L_law_2842 g l0 l1 l2 l3 l4 l5 (xMp h743 a746 ad747 v749.2) (bc - m741) (bs - m742) k28 Q else
 xt_b (xh_ad (xMp h743 a746 ad747 v749.2) a753 0) (fun v756 =>
 xt_b (xh_ad (xMp h743 a746 ad747 v749.2) a753 0) (fun v757 =>
 (if (Op.cmpValue (FP.dcmp v756 v757) .l) = 0 then
 Q 0 (xMp h743 a746 ad747 v749.2) else
 (if (Op.cmpValue (FP.fcmp v749.1 v749.1) .l) = 0 then
 Q 0 (xMp h743 a746 ad747 v749.2) else
 B_L_law_2842 g l0 l1 l2 l3 l4 l5 (xMp h743 a746 ad747 v749.2) (bc - m741) (bs - m742) k28 Q)))))))) else
 B_L_law_2842 g l0 l1 l2 l3 l4 l5 (xMp h743 a746 ad747 v749.2) (bc - m741) (bs - m742) k28 Q) else
 Q 0 (xMp h743 a746 ad747 v749.2))))))))))))
noncomputable def B_L_law_2878 (g : xm_G) (l0 : Option Nat) (l1 : Option Nat) (l2 : Option Nat) (l3 : Option Nat) (l4 : Option Nat) (l5 : Int32) (s0 : Int32) (s1 : Option Nat) (s2 : Int32) (h : xm_H) (bc : Nat) (bs : Nat) (k28 : Int32 × xm_H × Nat × Nat → Prop) (Q : Int32 → xm_H → Prop) : Prop :=
 xt_b s1 (fun a767 =>
 xt_m g h a767 (fun ad768 σ769 =>
 xt_b (F_X5_print s2 σ769) (fun v770 =>
 (if s0 = v770.1 then
 B_L_law_2924 g l0 l1 l2 l3 l4 l5 (xMp h a767 ad768 v770.2) bc bs k28 Q else
 Q 0 (xMp h a767 ad768 v770.2)))))
noncomputable def B_L_law_2860 (g : xm_G) (l0 : Option Nat) (l1 : Option Nat) (l2 : Option Nat) (l3 : Option Nat) (l4 : Option Nat) (l5 : Int32) (s0 : Option Nat) (s1 : Int32) (h : xm_H) (bc : Nat) (bs : Nat) (k28 : Int32 × xm_H × Nat × Nat → Prop) (Q : Int32 → xm_H → Prop) : Prop :=
 xt_b s0 (fun a760 =>
 xt_b (xh_is 0 h a760) (fun _ =>
 xt_c bc bs (fun m761 m762 => F_X1_print g a760 s1 h m761 m762 (fun v764 h763 =>
 xt_b l0 (fun a765 =>
 xt_b (xh_ai .int h763 a765 (l5 + 1)) (fun v766 =>
 B_L_law_2878 g l0 l1 l2 l3 l4 l5 v764 l2 (if v766 = 0 then 0 else 1) h763 (bc - m761) (bs - m762) k28 Q))))))
noncomputable def B_L_law_2845 (g : xm_G) (l0 : Option Nat) (l1 : Option Nat) (l2 : Option Nat) (l3 : Option Nat) (l4 : Option Nat) (l5 : Int32) (h : xm_H) (bc : Nat) (bs : Nat) (k28 : Int32 × xm_H × Nat × Nat → Prop) (Q : Int32 → xm_H → Prop) : Prop :=
 xt_b l0 (fun a758 =>
 xt_b (xh_ai .int h a758 (l5 + 1)) (fun v759 =>
 B_L_law_2860 g l0 l1 l2 l3 l4 l5 l1 (if v759 = 0 then 0 else 1) h bc bs k28 Q))
noncomputable def B_L_law_2886 (g : xm_G) (l0 : Option Nat) (l1 : Option Nat) (l2 : Option Nat) (l3 : Option Nat) (l4 : Option Nat) (l5 : Int32) (h : xm_H) (bc : Nat) (bs : Nat) (k28 : Int32 × xm_H × Nat × Nat → Prop) (Q : Int32 → xm_H → Prop) : Prop :=
 xt_b l1 (fun a771 =>
 xt_b (xh_is 0 h a771) (fun _ =>
 xt_c bc bs (fun m772 m773 => F_X1_printProgram g a771 h m772 m773 (fun v775 h774 =>
 xt_b l2 (fun a776 =>
 xt_m g h774 a776 (fun ad777 σ778 =>
 xt_b (F_X5_printProgram σ778) (fun v779 =>
 (if v775 = v779.1 then
 B_L_law_2924 g l0 l1 l2 l3 l4 l5 (xMp h774 a776 ad777 v779.2) (bc - m772) (bs - m773) k28 Q else
 Q 0 (xMp h774 a776 ad777 v779.2)))))))))
noncomputable def B_L_law_2899 (g : xm_G) (l0 : Option Nat) (l1 : Option Nat) (l2 : Option Nat) (l3 : Option Nat) (l4 : Option Nat) (l5 : Int32) (h : xm_H) (bc : Nat) (bs : Nat) (k28 : Int32 × xm_H × Nat × Nat → Prop) (Q : Int32 → xm_H → Prop) : Prop :=
 xt_b l0 (fun a780 =>
 xt_b (xh_ai .int h a780 (l5 + 1)) (fun v781 =>
 xt_b l1 (fun a782 =>
 xt_b (xh_is 0 h a782) (fun _ =>
 xt_b (F_X1_outputByte g a782 v781 h) (fun v783 =>
 xt_b (xh_ai .int h a780 (l5 + 1)) (fun v784 =>
 xt_b l2 (fun a785 =>
 xt_m g h a785 (fun ad786 σ787 =>
 xt_b (F_X5_outputByte v784 σ787) (fun v788 =>
 (if v783 = v788.1 then
 B_L_law_2924 g l0 l1 l2 l3 l4 l5 (xMp h a785 ad786 v788.2) bc bs k28 Q else
 Q 0 (xMp h a785 ad786 v788.2)))))))))))
noncomputable def D_L_law_28 (g : xm_G) (l0 : Option Nat) (l1 : Option Nat) (l2 : Option Nat) (l3 : Option Nat) (l4 : Option Nat) (Q : Int32 → xm_H → Prop) (k28 : Int32 × xm_H × Nat × Nat → Prop) (s : Int32 × xm_H × Nat × Nat) : Prop :=
 xt_b l0 (fun a27 =>
 xt_b (xh_len s.2.1 a27) (fun v28 =>
 (if (v28 - 6) < s.1 then
 Q 1 s.2.1 else
 xt_b (xh_ai .int s.2.1 a27 s.1) (fun v29 =>
 (if (v29 &&& 63) = 0 then
 B_L_law_260 g l0 l1 l2 l3 l4 s.1 s.2.1 s.2.2.1 s.2.2.2 k28 Q else
 (if (v29 &&& 63) = 1 then
 B_L_law_333 g l0 l1 l2 l3 l4 s.1 s.2.1 s.2.2.1 s.2.2.2 k28 Q else
 (if (v29 &&& 63) = 2 then
 B_L_law_358 g l0 l1 l2 l3 l4 s.1 s.2.1 s.2.2.1 s.2.2.2 k28 Q else
 (if (v29 &&& 63) = 3 then
 B_L_law_371 g l0 l1 l2 l3 l4 s.1 s.2.1 s.2.2.1 s.2.2.2 k28 Q else
 (if (v29 &&& 63) = 4 then
 B_L_law_384 g l0 l1 l2 l3 l4 s.1 s.2.1 s.2.2.1 s.2.2.2 k28 Q else
 (if (v29 &&& 63) = 5 then
 B_L_law_397 g l0 l1 l2 l3 l4 s.1 s.2.1 s.2.2.1 s.2.2.2 k28 Q else
 (if (v29 &&& 63) = 6 then
 B_L_law_422 g l0 l1 l2 l3 l4 s.1 s.2.1 s.2.2.1 s.2.2.2 k28 Q else
 (if (v29 &&& 63) = 7 then
 B_L_law_490 g l0 l1 l2 l3 l4 s.1 s.2.1 s.2.2.1 s.2.2.2 k28 Q else
 (if (v29 &&& 63) = 8 then
 B_L_law_570 g l0 l1 l2 l3 l4 s.1 s.2.1 s.2.2.1 s.2.2.2 k28 Q else
 (if (v29 &&& 63) = 9 then
 B_L_law_678 g l0 l1 l2 l3 l4 s.1 s.2.1 s.2.2.1 s.2.2.2 k28 Q else
 (if (v29 &&& 63) = 10 then
 B_L_law_722 g l0 l1 l2 l3 l4 s.1 s.2.1 s.2.2.1 s.2.2.2 k28 Q else
 (if (v29 &&& 63) = 11 then
 B_L_law_735 g l0 l1 l2 l3 l4 s.1 s.2.1 s.2.2.1 s.2.2.2 k28 Q else
 (if (v29 &&& 63) = 12 then
 B_L_law_791 g l0 l1 l2 l3 l4 s.1 s.2.1 s.2.2.1 s.2.2.2 k28 Q else
 (if (v29 &&& 63) = 13 then
 B_L_law_804 g l0 l1 l2 l3 l4 s.1 s.2.1 s.2.2.1 s.2.2.2 k28 Q else
 (if (v29 &&& 63) = 14 then
 B_L_law_860 g l0 l1 l2 l3 l4 s.1 s.2.1 s.2.2.1 s.2.2.2 k28 Q else
 (if (v29 &&& 63) = 15 then
 B_L_law_873 g l0 l1 l2 l3 l4 s.1 s.2.1 s.2.2.1 s.2.2.2 k28 Q else
 (if (v29 &&& 63) = 16 then
 B_L_law_929 g l0 l1 l2 l3 l4 s.1 s.2.1 s.2.2.1 s.2.2.2 k28 Q else
 (if (v29 &&& 63) = 17 then
 B_L_law_973 g l0 l1 l2 l3 l4 s.1 s.2.1 s.2.2.1 s.2.2.2 k28 Q else
 (if (v29 &&& 63) = 18 then
 B_L_law_1041 g l0 l1 l2 l3 l4 s.1 s.2.1 s.2.2.1 s.2.2.2 k28 Q else
 (if (v29 &&& 63) = 19 then
 B_L_law_1109 g l0 l1 l2 l3 l4 s.1 s.2.1 s.2.2.1 s.2.2.2 k28 Q else
 (if (v29 &&& 63) = 20 then
 B_L_law_1177 g l0 l1 l2 l3 l4 s.1 s.2.1 s.2.2.1 s.2.2.2 k28 Q else
 (if (v29 &&& 63) = 21 then
 B_L_law_1245 g l0 l1 l2 l3 l4 s.1 s.2.1 s.2.2.1 s.2.2.2 k28 Q else
 (if (v29 &&& 63) = 22 then
 B_L_law_1344 g l0 l1 l2 l3 l4 s.1 s.2.1 s.2.2.1 s.2.2.2 k28 Q else
 (if (v29 &&& 63) = 23 then
 B_L_law_1436 g l0 l1 l2 l3 l4 s.1 s.2.1 s.2.2.1 s.2.2.2 k28 Q else
 (if (v29 &&& 63) = 24 then
 B_L_law_1504 g l0 l1 l2 l3 l4 s.1 s.2.1 s.2.2.1 s.2.2.2 k28 Q else
 (if (v29 &&& 63) = 25 then
 B_L_law_1572 g l0 l1 l2 l3 l4 s.1 s.2.1 s.2.2.1 s.2.2.2 k28 Q else
 (if (v29 &&& 63) = 26 then
 B_L_law_1640 g l0 l1 l2 l3 l4 s.1 s.2.1 s.2.2.1 s.2.2.2 k28 Q else
 (if (v29 &&& 63) = 27 then
 B_L_law_1708 g l0 l1 l2 l3 l4 s.1 s.2.1 s.2.2.1 s.2.2.2 k28 Q else
 (if (v29 &&& 63) = 28 then
 B_L_law_1733 g l0 l1 l2 l3 l4 s.1 s.2.1 s.2.2.1 s.2.2.2 k28 Q else
 (if (v29 &&& 63) = 29 then
 B_L_law_1789 g l0 l1 l2 l3 l4 s.1 s.2.1 s.2.2.1 s.2.2.2 k28 Q else
 (if (v29 &&& 63) = 30 then
 B_L_law_1893 g l0 l1 l2 l3 l4 s.1 s.2.1 s.2.2.1 s.2.2.2 k28 Q else
 (if (v29 &&& 63) = 31 then
 B_L_law_1997 g l0 l1 l2 l3 l4 s.1 s.2.1 s.2.2.1 s.2.2.2 k28 Q else
 (if (v29 &&& 63) = 32 then
 B_L_law_2065 g l0 l1 l2 l3 l4 s.1 s.2.1 s.2.2.1 s.2.2.2 k28 Q else
 (if (v29 &&& 63) = 33 then
 B_L_law_2121 g l0 l1 l2 l3 l4 s.1 s.2.1 s.2.2.1 s.2.2.2 k28 Q else
 (if (v29 &&& 63) = 34 then
 B_L_law_2134 g l0 l1 l2 l3 l4 s.1 s.2.1 s.2.2.1 s.2.2.2 k28 Q else
 (if (v29 &&& 63) = 35 then
 B_L_law_2190 g l0 l1 l2 l3 l4 s.1 s.2.1 s.2.2.1 s.2.2.2 k28 Q else
 (if (v29 &&& 63) = 36 then
 B_L_law_2258 g l0 l1 l2 l3 l4 s.1 s.2.1 s.2.2.1 s.2.2.2 k28 Q else
 (if (v29 &&& 63) = 37 then
 B_L_law_2302 g l0 l1 l2 l3 l4 s.1 s.2.1 s.2.2.1 s.2.2.2 k28 Q else
 (if (v29 &&& 63) = 38 then
 B_L_law_2358 g l0 l1 l2 l3 l4 s.1 s.2.1 s.2.2.1 s.2.2.2 k28 Q else
 (if (v29 &&& 63) = 39 then
 B_L_law_2371 g l0 l1 l2 l3 l4 s.1 s.2.1 s.2.2.1 s.2.2.2 k28 Q else
 (if (v29 &&& 63) = 40 then
 B_L_law_2448 g l0 l1 l2 l3 l4 s.1 s.2.1 s.2.2.1 s.2.2.2 k28 Q else
 (if (v29 &&& 63) = 41 then
 B_L_law_2473 g l0 l1 l2 l3 l4 s.1 s.2.1 s.2.2.1 s.2.2.2 k28 Q else
 (if (v29 &&& 63) = 42 then
 B_L_law_2536 g l0 l1 l2 l3 l4 s.1 s.2.1 s.2.2.1 s.2.2.2 k28 Q else
 (if (v29 &&& 63) = 43 then
 B_L_law_2599 g l0 l1 l2 l3 l4 s.1 s.2.1 s.2.2.1 s.2.2.2 k28 Q else
 (if (v29 &&& 63) = 44 then
 B_L_law_2655 g l0 l1 l2 l3 l4 s.1 s.2.1 s.2.2.1 s.2.2.2 k28 Q else
 (if (v29 &&& 63) = 45 then
 B_L_law_2711 g l0 l1 l2 l3 l4 s.1 s.2.1 s.2.2.1 s.2.2.2 k28 Q else
 (if (v29 &&& 63) = 46 then
 B_L_law_2767 g l0 l1 l2 l3 l4 s.1 s.2.1 s.2.2.1 s.2.2.2 k28 Q else
 (if (v29 &&& 63) = 47 then
 B_L_law_2845 g l0 l1 l2 l3 l4 s.1 s.2.1 s.2.2.1 s.2.2.2 k28 Q else
 (if (v29 &&& 63) = 48 then
 B_L_law_2886 g l0 l1 l2 l3 l4 s.1 s.2.1 s.2.2.1 s.2.2.2 k28 Q else
 (if (v29 &&& 63) = 49 then
 B_L_law_2899 g l0 l1 l2 l3 l4 s.1 s.2.1 s.2.2.1 s.2.2.2 k28 Q else
 B_L_law_2924 g l0 l1 l2 l3 l4 s.1 s.2.1 s.2.2.1 s.2.2.2 k28 Q))))))))))))))))))))))))))))))))))))))))))))))))))))))
noncomputable def L_L_law_28 (g : xm_G) (l0 : Option Nat) (l1 : Option Nat) (l2 : Option Nat) (l3 : Option Nat) (l4 : Option Nat) (Q : Int32 → xm_H → Prop) (s : Int32 × xm_H × Nat × Nat) : Prop := xt_loop (D_L_law_28 g l0 l1 l2 l3 l4 Q) s
noncomputable def F_L_law (g : xm_G) (p0 : Option Nat) (h : xm_H) (bc : Nat) (bs : Nat) (Q : Int32 → xm_H → Prop) : Prop :=
 xt_new h bc bs 9 (.inr (0, [.null, .null, .null, .null, .null, .int 0, .int 0, .int 0, .null])) (fun a1 h2 b3 b4 =>
 xt_c b3 b4 (fun m5 m6 => F_X1_init g a1 h2 m5 m6 (fun h7 =>
 xt_new h7 (b3 - m5) (b4 - m6) 42 (.inr (4, [.int 0, .null, .null, .null, .null, .int 0, .int 0, .int 0, .int 0, .null, .null, .null, .null, .null, .null, .null, .null, .null, .int 0, .null, .int 0, .int 0, .int 0, .int 0, .int 0, .int 0, .int 0, .int 0, .int 0, .int 0, .int 0, .int 0, .int 0, .null, .int 0, .null, .null, .null, .int 0, .int 0, .null, .int 0])) (fun a9 h10 b11 b12 =>
 xt_c b11 b12 (fun m13 m14 => F_X5_init g a9 h10 m13 m14 (fun h15 =>
 xt_b (xa_nat 1) (fun N21 =>
 xt_new h15 (b11 - m13) (b12 - m14) N21 (.inl (.long, N21, .inr (.inl (fun _ => 0)))) (fun a17 h18 b19 b20 =>
 xt_b (xa_nat 1) (fun N26 =>
 xt_new h18 b19 b20 N26 (.inl (.double, N26, .inr (.inr (.inr (.inl (fun _ => 0)))))) (fun a22 h23 b24 b25 =>
 L_L_law_28 g p0 (some a1) (some a9) (some a17) (some a22) Q (0, h23, b24, b25)))))))))))
def M_L_law : xm_M := (x, code, 9, ret, [])
set_option maxHeartbeats 40000000 in
theorem K_L_law {g : xm_G} (hG : xm_Gw g) (p0 : Option Nat) (h : xm_H) (bc bs : Nat) {Q : Int32 → xm_H → Prop} {X : xm_X} (e : F_L_law g p0 h bc bs Q) {Γ : xm_C} (hΓ : xm_ok g Γ M_L_law 28 (fun v h' => ∃ r, v = some (.int r) ∧ Q r h') X) : xm_W g Γ 0 [some (va_rf p0), none, none, none, none, none, none, none, none] [] h bc bs := by
  have hL_28 : ∀ (l0 : Option Nat) (l1 : Option Nat) (l2 : Option Nat) (l3 : Option Nat) (l4 : Option Nat) (s : Int32 × xm_H × Nat × Nat), L_L_law_28 g l0 l1 l2 l3 l4 Q s → xm_W g Γ 28 [some (va_rf l0), some (va_rf l1), some (va_rf l2), some (va_rf l3), some (va_rf l4), some (.int s.1), none, none, none] [] s.2.1 s.2.2.1 s.2.2.2 := by
    intro l0 l1 l2 l3 l4
    refine xt_rule (WS := fun s : Int32 × xm_H × Nat × Nat => xm_W g Γ 28 [some (va_rf l0), some (va_rf l1), some (va_rf l2), some (va_rf l3), some (va_rf l4), some (.int s.1), none, none, none] [] s.2.1 s.2.2.1 s.2.2.2) ?_
    intro k28 hk28 s e
    have hB_2924 : ∀ (l5 : Int32) (h : xm_H) (bc : Nat) (bs : Nat), B_L_law_2924 g l0 l1 l2 l3 l4 l5 h bc bs k28 Q → xm_W g Γ 2924 [some (va_rf l0), some (va_rf l1), some (va_rf l2), some (va_rf l3), some (va_rf l4), some (.int l5), none, none, none] [] h bc bs := by
      intro l5 h bc bs e
      unfold B_L_law_2924 at e
      refine xw_inc (v := (6)) (ls' := [some (va_rf l0), some (va_rf l1), some (va_rf l2), some (va_rf l3), some (va_rf l4), some (.int (l5 + 6)), none, none, none]) (show xm_Imp g Γ 2924 (xi_inc 5 (6) 2927) from xs_iinc hΓ dL_law_2924 (by decide) (Nat.le_of_ble_eq_true rfl)) rfl ((xm_s1_o (o := l4) rfl).trans rfl) ?_
      refine xw_goto (show xm_Imp g Γ 2927 (xi_goto 28) from xs_goto hΓ dL_law_2927 (by decide)) ?_
      have hq := hk28 _ e; exact hq
    have hB_260 : ∀ (l5 : Int32) (h : xm_H) (bc : Nat) (bs : Nat), B_L_law_260 g l0 l1 l2 l3 l4 l5 h bc bs k28 Q → xm_W g Γ 260 [some (va_rf l0), some (va_rf l1), some (va_rf l2), some (va_rf l3), some (va_rf l4), some (.int l5), none, none, none] [] h bc bs := by
      intro l5 h bc bs e
      unfold B_L_law_260 at e
      refine xw_aldo (x := l1) (show xm_Imp g Γ 260 (xi_ald 1 261) from xs_aload_n hΓ dL_law_260) rfl ?_
      refine xw_aldo (x := l0) (show xm_Imp g Γ 261 (xi_ald 0 262) from xs_aload_n hΓ dL_law_261) rfl ?_
      refine xw_ild (show xm_Imp g Γ 262 (xi_ild 5 264) from xs_iload hΓ dL_law_262) rfl ?_
      refine xw_psh (v := (.int (1))) (show xm_Imp g Γ 264 (xi_psh (.int (1)) 265) from xs_iconst hΓ dL_law_264 (by decide)) ?_
      refine xw_ii (show xm_Imp g Γ 265 (xi_ii (fun x y => x + y) 266) from xs_iadd hΓ dL_law_265) ?_
      obtain ⟨a30, ha30, e⟩ := e
      obtain ⟨v31, e1, e⟩ := e
      refine xw_hial (o := l0) (show xm_Imp g Γ 266 (xi_ial 267) from xs_ial hG hΓ dL_law_266) ha30 e1 ?_
      refine xw_aldo (x := l0) (show xm_Imp g Γ 267 (xi_ald 0 268) from xs_aload_n hΓ dL_law_267) rfl ?_
      refine xw_ild (show xm_Imp g Γ 268 (xi_ild 5 270) from xs_iload hΓ dL_law_268) rfl ?_
      refine xw_psh (v := (.int (2))) (show xm_Imp g Γ 270 (xi_psh (.int (2)) 271) from xs_iconst hΓ dL_law_270 (by decide)) ?_
      refine xw_ii (show xm_Imp g Γ 271 (xi_ii (fun x y => x + y) 272) from xs_iadd hΓ dL_law_271) ?_
      obtain ⟨v32, e1, e⟩ := e
      refine xw_hial (o := l0) (show xm_Imp g Γ 272 (xi_ial 273) from xs_ial hG hΓ dL_law_272) ha30 e1 ?_
      refine xw_aldo (x := l0) (show xm_Imp g Γ 273 (xi_ald 0 274) from xs_aload_n hΓ dL_law_273) rfl ?_
      refine xw_ild (show xm_Imp g Γ 274 (xi_ild 5 276) from xs_iload hΓ dL_law_274) rfl ?_
      refine xw_psh (v := (.int (3))) (show xm_Imp g Γ 276 (xi_psh (.int (3)) 277) from xs_iconst hΓ dL_law_276 (by decide)) ?_
      refine xw_ii (show xm_Imp g Γ 277 (xi_ii (fun x y => x + y) 278) from xs_iadd hΓ dL_law_277) ?_
      obtain ⟨v33, e1, e⟩ := e
      refine xw_hial (o := l0) (show xm_Imp g Γ 278 (xi_ial 279) from xs_ial hG hΓ dL_law_278) ha30 e1 ?_
      refine xw_aldo (x := l0) (show xm_Imp g Γ 279 (xi_ald 0 280) from xs_aload_n hΓ dL_law_279) rfl ?_
      refine xw_ild (show xm_Imp g Γ 280 (xi_ild 5 282) from xs_iload hΓ dL_law_280) rfl ?_
      refine xw_psh (v := (.int (4))) (show xm_Imp g Γ 282 (xi_psh (.int (4)) 283) from xs_iconst hΓ dL_law_282 (by decide)) ?_
      refine xw_ii (show xm_Imp g Γ 283 (xi_ii (fun x y => x + y) 284) from xs_iadd hΓ dL_law_283) ?_
      obtain ⟨v34, e1, e⟩ := e
      refine xw_hial (o := l0) (show xm_Imp g Γ 284 (xi_ial 285) from xs_ial hG hΓ dL_law_284) ha30 e1 ?_
      refine xw_aldo (x := l0) (show xm_Imp g Γ 285 (xi_ald 0 286) from xs_aload_n hΓ dL_law_285) rfl ?_
      refine xw_ild (show xm_Imp g Γ 286 (xi_ild 5 288) from xs_iload hΓ dL_law_286) rfl ?_
      refine xw_psh (v := (.int (5))) (show xm_Imp g Γ 288 (xi_psh (.int (5)) 289) from xs_iconst hΓ dL_law_288 (by decide)) ?_
      refine xw_ii (show xm_Imp g Γ 289 (xi_ii (fun x y => x + y) 290) from xs_iadd hΓ dL_law_289) ?_
      obtain ⟨v35, e1, e⟩ := e
      refine xw_hial (o := l0) (show xm_Imp g Γ 290 (xi_ial 291) from xs_ial hG hΓ dL_law_290) ha30 e1 ?_
      obtain ⟨a36, ha36, e⟩ := e
      obtain ⟨_, e0, e⟩ := e
      obtain ⟨v37, e1, e⟩ := e
      refine xw_hv5 (o := l1) (show xm_Imp g Γ 291 (xi_vir g 0 M_X1_feed 2 5 294) from xs_invV hG hΓ k_X1_feed rfl (ci := 0) rfl q375 q376 q377 dL_law_291) (by simp [xm_stk, xv_cat, xc_int, xc_long, xc_float, xc_double, xc_ref]) ha36 e0 (fun Q X hQ => K_X1_feed hG a36 v31 v32 v33 v34 v35 _ e1 hQ) ?_
      refine xw_aldo (x := l2) (show xm_Imp g Γ 294 (xi_ald 2 295) from xs_aload_n hΓ dL_law_294) rfl ?_
      refine xw_aldo (x := l0) (show xm_Imp g Γ 295 (xi_ald 0 296) from xs_aload_n hΓ dL_law_295) rfl ?_
      refine xw_ild (show xm_Imp g Γ 296 (xi_ild 5 298) from xs_iload hΓ dL_law_296) rfl ?_
      refine xw_psh (v := (.int (1))) (show xm_Imp g Γ 298 (xi_psh (.int (1)) 299) from xs_iconst hΓ dL_law_298 (by decide)) ?_
      refine xw_ii (show xm_Imp g Γ 299 (xi_ii (fun x y => x + y) 300) from xs_iadd hΓ dL_law_299) ?_
      obtain ⟨v38, e1, e⟩ := e
      refine xw_hial (o := l0) (show xm_Imp g Γ 300 (xi_ial 301) from xs_ial hG hΓ dL_law_300) ha30 e1 ?_
      refine xw_aldo (x := l0) (show xm_Imp g Γ 301 (xi_ald 0 302) from xs_aload_n hΓ dL_law_301) rfl ?_
      refine xw_ild (show xm_Imp g Γ 302 (xi_ild 5 304) from xs_iload hΓ dL_law_302) rfl ?_
      refine xw_psh (v := (.int (2))) (show xm_Imp g Γ 304 (xi_psh (.int (2)) 305) from xs_iconst hΓ dL_law_304 (by decide)) ?_
      refine xw_ii (show xm_Imp g Γ 305 (xi_ii (fun x y => x + y) 306) from xs_iadd hΓ dL_law_305) ?_
      obtain ⟨v39, e1, e⟩ := e
      refine xw_hial (o := l0) (show xm_Imp g Γ 306 (xi_ial 307) from xs_ial hG hΓ dL_law_306) ha30 e1 ?_
      refine xw_aldo (x := l0) (show xm_Imp g Γ 307 (xi_ald 0 308) from xs_aload_n hΓ dL_law_307) rfl ?_
      refine xw_ild (show xm_Imp g Γ 308 (xi_ild 5 310) from xs_iload hΓ dL_law_308) rfl ?_
      refine xw_psh (v := (.int (3))) (show xm_Imp g Γ 310 (xi_psh (.int (3)) 311) from xs_iconst hΓ dL_law_310 (by decide)) ?_
      refine xw_ii (show xm_Imp g Γ 311 (xi_ii (fun x y => x + y) 312) from xs_iadd hΓ dL_law_311) ?_
      obtain ⟨v40, e1, e⟩ := e
      refine xw_hial (o := l0) (show xm_Imp g Γ 312 (xi_ial 313) from xs_ial hG hΓ dL_law_312) ha30 e1 ?_
      refine xw_aldo (x := l0) (show xm_Imp g Γ 313 (xi_ald 0 314) from xs_aload_n hΓ dL_law_313) rfl ?_
      refine xw_ild (show xm_Imp g Γ 314 (xi_ild 5 316) from xs_iload hΓ dL_law_314) rfl ?_
      refine xw_psh (v := (.int (4))) (show xm_Imp g Γ 316 (xi_psh (.int (4)) 317) from xs_iconst hΓ dL_law_316 (by decide)) ?_
      refine xw_ii (show xm_Imp g Γ 317 (xi_ii (fun x y => x + y) 318) from xs_iadd hΓ dL_law_317) ?_
      obtain ⟨v41, e1, e⟩ := e
      refine xw_hial (o := l0) (show xm_Imp g Γ 318 (xi_ial 319) from xs_ial hG hΓ dL_law_318) ha30 e1 ?_
      refine xw_aldo (x := l0) (show xm_Imp g Γ 319 (xi_ald 0 320) from xs_aload_n hΓ dL_law_319) rfl ?_
      refine xw_ild (show xm_Imp g Γ 320 (xi_ild 5 322) from xs_iload hΓ dL_law_320) rfl ?_
      refine xw_psh (v := (.int (5))) (show xm_Imp g Γ 322 (xi_psh (.int (5)) 323) from xs_iconst hΓ dL_law_322 (by decide)) ?_
      refine xw_ii (show xm_Imp g Γ 323 (xi_ii (fun x y => x + y) 324) from xs_iadd hΓ dL_law_323) ?_
      obtain ⟨v42, e1, e⟩ := e
      refine xw_hial (o := l0) (show xm_Imp g Γ 324 (xi_ial 325) from xs_ial hG hΓ dL_law_324) ha30 e1 ?_
      obtain ⟨a43, ha43, e⟩ := e
      obtain ⟨ad44, σ45, hMad44, hBad44, hhad44, e⟩ := e
      obtain ⟨v46, e1, e⟩ := e
      refine xw_hv5 (o := l2) (u := ()) (show xm_Imp g Γ 325 (xi_vir g 4 M_X5_feed 1 5 328) from xs_invV hG hΓ k_X5_feed rfl (ci := 4) rfl q3165 q3166 q3167 dL_law_325) (by simp [xm_stk, xv_cat, xc_int, xc_long, xc_float, xc_double, xc_ref]) ha43 (xM_is hhad44) (xM_run hhad44 (fun Q X hQ => K_X5_feed hG hMad44 hBad44 v38 v39 v40 v41 v42 σ45 e1 hQ)) ?_
      refine xw_ic (show xm_Imp g Γ 328 (xi_ic (fun x y => x = y) 2924 331) from xs_icmp_eq hΓ dL_law_328 (by decide)) (fun c => ?_) (fun c => ?_)
      · rw [if_pos c] at e
        exact hB_2924 _ _ _ _ e
      · rw [if_neg c] at e
        refine xw_psh (v := (.int (0))) (show xm_Imp g Γ 331 (xi_psh (.int (0)) 332) from xs_iconst hΓ dL_law_331 (by decide)) ?_
        exact xw_iret (show xm_Imp g Γ 332 (xi_iret .boolean _) from xs_ireturn hΓ rfl dL_law_332) rfl ⟨_, rfl, e⟩
    have hB_333 : ∀ (l5 : Int32) (h : xm_H) (bc : Nat) (bs : Nat), B_L_law_333 g l0 l1 l2 l3 l4 l5 h bc bs k28 Q → xm_W g Γ 333 [some (va_rf l0), some (va_rf l1), some (va_rf l2), some (va_rf l3), some (va_rf l4), some (.int l5), none, none, none] [] h bc bs := by
      intro l5 h bc bs e
      unfold B_L_law_333 at e
      refine xw_aldo (x := l1) (show xm_Imp g Γ 333 (xi_ald 1 334) from xs_aload_n hΓ dL_law_333) rfl ?_
      refine xw_aldo (x := l0) (show xm_Imp g Γ 334 (xi_ald 0 335) from xs_aload_n hΓ dL_law_334) rfl ?_
      refine xw_ild (show xm_Imp g Γ 335 (xi_ild 5 337) from xs_iload hΓ dL_law_335) rfl ?_
      refine xw_psh (v := (.int (1))) (show xm_Imp g Γ 337 (xi_psh (.int (1)) 338) from xs_iconst hΓ dL_law_337 (by decide)) ?_
      refine xw_ii (show xm_Imp g Γ 338 (xi_ii (fun x y => x + y) 339) from xs_iadd hΓ dL_law_338) ?_
      obtain ⟨a47, ha47, e⟩ := e
      obtain ⟨v48, e1, e⟩ := e
      refine xw_hial (o := l0) (show xm_Imp g Γ 339 (xi_ial 340) from xs_ial hG hΓ dL_law_339) ha47 e1 ?_
      obtain ⟨a49, ha49, e⟩ := e
      obtain ⟨_, e0, e⟩ := e
      obtain ⟨v50, e1, e⟩ := e
      refine xw_hv1 (o := l1) (show xm_Imp g Γ 340 (xi_vir g 0 M_X1_truncate 2 1 343) from xs_invV hG hΓ k_X1_truncate rfl (ci := 0) rfl q383 q384 q385 dL_law_340) (by simp [xm_stk, xv_cat, xc_int, xc_long, xc_float, xc_double, xc_ref]) ha49 e0 (fun Q X hQ => K_X1_truncate hG a49 v48 _ e1 hQ) ?_
      refine xw_aldo (x := l2) (show xm_Imp g Γ 343 (xi_ald 2 344) from xs_aload_n hΓ dL_law_343) rfl ?_
      refine xw_aldo (x := l0) (show xm_Imp g Γ 344 (xi_ald 0 345) from xs_aload_n hΓ dL_law_344) rfl ?_
      refine xw_ild (show xm_Imp g Γ 345 (xi_ild 5 347) from xs_iload hΓ dL_law_345) rfl ?_
      refine xw_psh (v := (.int (1))) (show xm_Imp g Γ 347 (xi_psh (.int (1)) 348) from xs_iconst hΓ dL_law_347 (by decide)) ?_
      refine xw_ii (show xm_Imp g Γ 348 (xi_ii (fun x y => x + y) 349) from xs_iadd hΓ dL_law_348) ?_
      obtain ⟨v51, e1, e⟩ := e
      refine xw_hial (o := l0) (show xm_Imp g Γ 349 (xi_ial 350) from xs_ial hG hΓ dL_law_349) ha47 e1 ?_
      obtain ⟨a52, ha52, e⟩ := e
      obtain ⟨ad53, σ54, hMad53, hBad53, hhad53, e⟩ := e
      obtain ⟨v55, e1, e⟩ := e
      refine xw_hv1 (o := l2) (u := ()) (show xm_Imp g Γ 350 (xi_vir g 4 M_X5_truncate 2 1 353) from xs_invV hG hΓ k_X5_truncate rfl (ci := 4) rfl q3169 q3170 q3171 dL_law_350) (by simp [xm_stk, xv_cat, xc_int, xc_long, xc_float, xc_double, xc_ref]) ha52 (xM_is hhad53) (xM_run hhad53 (fun Q X hQ => K_X5_truncate hG hMad53 hBad53 v51 σ54 (Option.some.inj e1) hQ)) ?_
      refine xw_ic (show xm_Imp g Γ 353 (xi_ic (fun x y => x = y) 2924 356) from xs_icmp_eq hΓ dL_law_353 (by decide)) (fun c => ?_) (fun c => ?_)
      · rw [if_pos c] at e
        exact hB_2924 _ _ _ _ e
      · rw [if_neg c] at e
        refine xw_psh (v := (.int (0))) (show xm_Imp g Γ 356 (xi_psh (.int (0)) 357) from xs_iconst hΓ dL_law_356 (by decide)) ?_
        exact xw_iret (show xm_Imp g Γ 357 (xi_iret .boolean _) from xs_ireturn hΓ rfl dL_law_357) rfl ⟨_, rfl, e⟩
    have hB_358 : ∀ (l5 : Int32) (h : xm_H) (bc : Nat) (bs : Nat), B_L_law_358 g l0 l1 l2 l3 l4 l5 h bc bs k28 Q → xm_W g Γ 358 [some (va_rf l0), some (va_rf l1), some (va_rf l2), some (va_rf l3), some (va_rf l4), some (.int l5), none, none, none] [] h bc bs := by
      intro l5 h bc bs e
      unfold B_L_law_358 at e
      refine xw_aldo (x := l1) (show xm_Imp g Γ 358 (xi_ald 1 359) from xs_aload_n hΓ dL_law_358) rfl ?_
      obtain ⟨a56, ha56, e⟩ := e
      obtain ⟨_, e0, e⟩ := e
      obtain ⟨m57, m58, ⟨em1, em2⟩, e⟩ := e
      refine xw_tvi0 (o := l1) (show xm_Imp g Γ 359 (xi_vir g 0 M_X1_parse 27 0 362) from xs_invVW hG hΓ k_X1_parse rfl (ci := 0) rfl q390 q391 q392 dL_law_359) (by simp [xm_stk, xv_cat, xc_int, xc_long, xc_float, xc_double, xc_ref]) ha56 e0 em1 em2 (K_X1_parse hG a56 _ _ _ e) (fun v60 h59 e => ?_)
      refine xw_aldo (x := l2) (show xm_Imp g Γ 362 (xi_ald 2 363) from xs_aload_n hΓ dL_law_362) rfl ?_
      obtain ⟨a61, ha61, e⟩ := e
      obtain ⟨ad62, σ63, hMad62, hBad62, hhad62, e⟩ := e
      obtain ⟨v64, e1, e⟩ := e
      refine xw_hv0 (o := l2) (u := ()) (show xm_Imp g Γ 363 (xi_vir g 4 M_X5_parse 19 0 366) from xs_invV hG hΓ k_X5_parse rfl (ci := 4) rfl q3173 q3174 q3175 dL_law_363) (by simp [xm_stk, xv_cat, xc_int, xc_long, xc_float, xc_double, xc_ref]) ha61 (xM_is hhad62) (xM_run hhad62 (fun Q X hQ => K_X5_parse hG hMad62 hBad62 σ63 e1 hQ)) ?_
      refine xw_ic (show xm_Imp g Γ 366 (xi_ic (fun x y => x = y) 2924 369) from xs_icmp_eq hΓ dL_law_366 (by decide)) (fun c => ?_) (fun c => ?_)
      · rw [if_pos c] at e
        exact hB_2924 _ _ _ _ e
      · rw [if_neg c] at e
        refine xw_psh (v := (.int (0))) (show xm_Imp g Γ 369 (xi_psh (.int (0)) 370) from xs_iconst hΓ dL_law_369 (by decide)) ?_
        exact xw_iret (show xm_Imp g Γ 370 (xi_iret .boolean _) from xs_ireturn hΓ rfl dL_law_370) rfl ⟨_, rfl, e⟩
    have hB_371 : ∀ (l5 : Int32) (h : xm_H) (bc : Nat) (bs : Nat), B_L_law_371 g l0 l1 l2 l3 l4 l5 h bc bs k28 Q → xm_W g Γ 371 [some (va_rf l0), some (va_rf l1), some (va_rf l2), some (va_rf l3), some (va_rf l4), some (.int l5), none, none, none] [] h bc bs := by
      intro l5 h bc bs e
      unfold B_L_law_371 at e
      refine xw_aldo (x := l1) (show xm_Imp g Γ 371 (xi_ald 1 372) from xs_aload_n hΓ dL_law_371) rfl ?_
      obtain ⟨a65, ha65, e⟩ := e
      obtain ⟨_, e0, e⟩ := e
      obtain ⟨v66, e1, e⟩ := e
      refine xw_hv0 (o := l1) (show xm_Imp g Γ 372 (xi_vir g 0 M_X1_errorCode 1 0 375) from xs_invV hG hΓ k_X1_errorCode rfl (ci := 0) rfl q1127 q1128 q1129 dL_law_372) (by simp [xm_stk, xv_cat, xc_int, xc_long, xc_float, xc_double, xc_ref]) ha65 e0 (fun Q X hQ => K_X1_errorCode hG a65 _ e1 hQ) ?_
      refine xw_aldo (x := l2) (show xm_Imp g Γ 375 (xi_ald 2 376) from xs_aload_n hΓ dL_law_375) rfl ?_
      obtain ⟨a67, ha67, e⟩ := e
      obtain ⟨ad68, σ69, hMad68, hBad68, hhad68, e⟩ := e
      obtain ⟨v70, e1, e⟩ := e
      refine xw_hv0 (o := l2) (u := ()) (show xm_Imp g Γ 376 (xi_vir g 4 M_X5_errorCode 1 0 379) from xs_invV hG hΓ k_X5_errorCode rfl (ci := 4) rfl q3260 q3261 q3262 dL_law_376) (by simp [xm_stk, xv_cat, xc_int, xc_long, xc_float, xc_double, xc_ref]) ha67 (xM_is hhad68) (xM_run hhad68 (fun Q X hQ => K_X5_errorCode hG hMad68 hBad68 σ69 (Option.some.inj e1) hQ)) ?_
      refine xw_ic (show xm_Imp g Γ 379 (xi_ic (fun x y => x = y) 2924 382) from xs_icmp_eq hΓ dL_law_379 (by decide)) (fun c => ?_) (fun c => ?_)
      · rw [if_pos c] at e
        exact hB_2924 _ _ _ _ e
      · rw [if_neg c] at e
        refine xw_psh (v := (.int (0))) (show xm_Imp g Γ 382 (xi_psh (.int (0)) 383) from xs_iconst hΓ dL_law_382 (by decide)) ?_
        exact xw_iret (show xm_Imp g Γ 383 (xi_iret .boolean _) from xs_ireturn hΓ rfl dL_law_383) rfl ⟨_, rfl, e⟩
    have hB_384 : ∀ (l5 : Int32) (h : xm_H) (bc : Nat) (bs : Nat), B_L_law_384 g l0 l1 l2 l3 l4 l5 h bc bs k28 Q → xm_W g Γ 384 [some (va_rf l0), some (va_rf l1), some (va_rf l2), some (va_rf l3), some (va_rf l4), some (.int l5), none, none, none] [] h bc bs := by
      intro l5 h bc bs e
      unfold B_L_law_384 at e
      refine xw_aldo (x := l1) (show xm_Imp g Γ 384 (xi_ald 1 385) from xs_aload_n hΓ dL_law_384) rfl ?_
      obtain ⟨a71, ha71, e⟩ := e
      obtain ⟨_, e0, e⟩ := e
      obtain ⟨v72, e1, e⟩ := e
      refine xw_hv0 (o := l1) (show xm_Imp g Γ 385 (xi_vir g 0 M_X1_errorOffset 1 0 388) from xs_invV hG hΓ k_X1_errorOffset rfl (ci := 0) rfl q1131 q1132 q1133 dL_law_385) (by simp [xm_stk, xv_cat, xc_int, xc_long, xc_float, xc_double, xc_ref]) ha71 e0 (fun Q X hQ => K_X1_errorOffset hG a71 _ e1 hQ) ?_
      refine xw_aldo (x := l2) (show xm_Imp g Γ 388 (xi_ald 2 389) from xs_aload_n hΓ dL_law_388) rfl ?_
      obtain ⟨a73, ha73, e⟩ := e
      obtain ⟨ad74, σ75, hMad74, hBad74, hhad74, e⟩ := e
      obtain ⟨v76, e1, e⟩ := e
      refine xw_hv0 (o := l2) (u := ()) (show xm_Imp g Γ 389 (xi_vir g 4 M_X5_errorOffset 1 0 392) from xs_invV hG hΓ k_X5_errorOffset rfl (ci := 4) rfl q3264 q3265 q3266 dL_law_389) (by simp [xm_stk, xv_cat, xc_int, xc_long, xc_float, xc_double, xc_ref]) ha73 (xM_is hhad74) (xM_run hhad74 (fun Q X hQ => K_X5_errorOffset hG hMad74 hBad74 σ75 (Option.some.inj e1) hQ)) ?_
      refine xw_ic (show xm_Imp g Γ 392 (xi_ic (fun x y => x = y) 2924 395) from xs_icmp_eq hΓ dL_law_392 (by decide)) (fun c => ?_) (fun c => ?_)
      · rw [if_pos c] at e
        exact hB_2924 _ _ _ _ e
      · rw [if_neg c] at e
        refine xw_psh (v := (.int (0))) (show xm_Imp g Γ 395 (xi_psh (.int (0)) 396) from xs_iconst hΓ dL_law_395 (by decide)) ?_
        exact xw_iret (show xm_Imp g Γ 396 (xi_iret .boolean _) from xs_ireturn hΓ rfl dL_law_396) rfl ⟨_, rfl, e⟩
    have hB_397 : ∀ (l5 : Int32) (h : xm_H) (bc : Nat) (bs : Nat), B_L_law_397 g l0 l1 l2 l3 l4 l5 h bc bs k28 Q → xm_W g Γ 397 [some (va_rf l0), some (va_rf l1), some (va_rf l2), some (va_rf l3), some (va_rf l4), some (.int l5), none, none, none] [] h bc bs := by
      intro l5 h bc bs e
      unfold B_L_law_397 at e
      refine xw_aldo (x := l1) (show xm_Imp g Γ 397 (xi_ald 1 398) from xs_aload_n hΓ dL_law_397) rfl ?_
      refine xw_aldo (x := l0) (show xm_Imp g Γ 398 (xi_ald 0 399) from xs_aload_n hΓ dL_law_398) rfl ?_
      refine xw_ild (show xm_Imp g Γ 399 (xi_ild 5 401) from xs_iload hΓ dL_law_399) rfl ?_
      refine xw_psh (v := (.int (1))) (show xm_Imp g Γ 401 (xi_psh (.int (1)) 402) from xs_iconst hΓ dL_law_401 (by decide)) ?_
      refine xw_ii (show xm_Imp g Γ 402 (xi_ii (fun x y => x + y) 403) from xs_iadd hΓ dL_law_402) ?_
      obtain ⟨a77, ha77, e⟩ := e
      obtain ⟨v78, e1, e⟩ := e
      refine xw_hial (o := l0) (show xm_Imp g Γ 403 (xi_ial 404) from xs_ial hG hΓ dL_law_403) ha77 e1 ?_
      obtain ⟨a79, ha79, e⟩ := e
      obtain ⟨_, e0, e⟩ := e
      obtain ⟨v80, e1, e⟩ := e
      refine xw_hv1 (o := l1) (show xm_Imp g Γ 404 (xi_vir g 0 M_X1_count 12 1 407) from xs_invV hG hΓ k_X1_count rfl (ci := 0) rfl q1135 q1136 q1137 dL_law_404) (by simp [xm_stk, xv_cat, xc_int, xc_long, xc_float, xc_double, xc_ref]) ha79 e0 (fun Q X hQ => K_X1_count hG a79 v78 _ e1 hQ) ?_
      refine xw_aldo (x := l2) (show xm_Imp g Γ 407 (xi_ald 2 408) from xs_aload_n hΓ dL_law_407) rfl ?_
      refine xw_aldo (x := l0) (show xm_Imp g Γ 408 (xi_ald 0 409) from xs_aload_n hΓ dL_law_408) rfl ?_
      refine xw_ild (show xm_Imp g Γ 409 (xi_ild 5 411) from xs_iload hΓ dL_law_409) rfl ?_
      refine xw_psh (v := (.int (1))) (show xm_Imp g Γ 411 (xi_psh (.int (1)) 412) from xs_iconst hΓ dL_law_411 (by decide)) ?_
      refine xw_ii (show xm_Imp g Γ 412 (xi_ii (fun x y => x + y) 413) from xs_iadd hΓ dL_law_412) ?_
      obtain ⟨v81, e1, e⟩ := e
      refine xw_hial (o := l0) (show xm_Imp g Γ 413 (xi_ial 414) from xs_ial hG hΓ dL_law_413) ha77 e1 ?_
      obtain ⟨a82, ha82, e⟩ := e
      obtain ⟨ad83, σ84, hMad83, hBad83, hhad83, e⟩ := e
      obtain ⟨v85, e1, e⟩ := e
      refine xw_hv1 (o := l2) (u := ()) (show xm_Imp g Γ 414 (xi_vir g 4 M_X5_count 2 1 417) from xs_invV hG hΓ k_X5_count rfl (ci := 4) rfl q3152 q3153 q3154 dL_law_414) (by simp [xm_stk, xv_cat, xc_int, xc_long, xc_float, xc_double, xc_ref]) ha82 (xM_is hhad83) (xM_run hhad83 (fun Q X hQ => K_X5_count hG hMad83 hBad83 v81 σ84 e1 hQ)) ?_
      refine xw_ic (show xm_Imp g Γ 417 (xi_ic (fun x y => x = y) 2924 420) from xs_icmp_eq hΓ dL_law_417 (by decide)) (fun c => ?_) (fun c => ?_)
      · rw [if_pos c] at e
        exact hB_2924 _ _ _ _ e
      · rw [if_neg c] at e
        refine xw_psh (v := (.int (0))) (show xm_Imp g Γ 420 (xi_psh (.int (0)) 421) from xs_iconst hΓ dL_law_420 (by decide)) ?_
        exact xw_iret (show xm_Imp g Γ 421 (xi_iret .boolean _) from xs_ireturn hΓ rfl dL_law_421) rfl ⟨_, rfl, e⟩
    have hB_487 : ∀ (l5 : Int32) (h : xm_H) (bc : Nat) (bs : Nat), B_L_law_487 g l0 l1 l2 l3 l4 l5 h bc bs k28 Q → xm_W g Γ 487 [some (va_rf l0), some (va_rf l1), some (va_rf l2), some (va_rf l3), some (va_rf l4), some (.int l5), none, none, none] [] h bc bs := by
      intro l5 h bc bs e
      unfold B_L_law_487 at e
      refine xw_goto (show xm_Imp g Γ 487 (xi_goto 2924) from xs_goto hΓ dL_law_487 (by decide)) ?_
      exact hB_2924 _ _ _ _ e
    have hB_422 : ∀ (l5 : Int32) (h : xm_H) (bc : Nat) (bs : Nat), B_L_law_422 g l0 l1 l2 l3 l4 l5 h bc bs k28 Q → xm_W g Γ 422 [some (va_rf l0), some (va_rf l1), some (va_rf l2), some (va_rf l3), some (va_rf l4), some (.int l5), none, none, none] [] h bc bs := by
      intro l5 h bc bs e
      unfold B_L_law_422 at e
      refine xw_aldo (x := l1) (show xm_Imp g Γ 422 (xi_ald 1 423) from xs_aload_n hΓ dL_law_422) rfl ?_
      refine xw_aldo (x := l0) (show xm_Imp g Γ 423 (xi_ald 0 424) from xs_aload_n hΓ dL_law_423) rfl ?_
      refine xw_ild (show xm_Imp g Γ 424 (xi_ild 5 426) from xs_iload hΓ dL_law_424) rfl ?_
      refine xw_psh (v := (.int (1))) (show xm_Imp g Γ 426 (xi_psh (.int (1)) 427) from xs_iconst hΓ dL_law_426 (by decide)) ?_
      refine xw_ii (show xm_Imp g Γ 427 (xi_ii (fun x y => x + y) 428) from xs_iadd hΓ dL_law_427) ?_
      obtain ⟨a86, ha86, e⟩ := e
      obtain ⟨v87, e1, e⟩ := e
      refine xw_hial (o := l0) (show xm_Imp g Γ 428 (xi_ial 429) from xs_ial hG hΓ dL_law_428) ha86 e1 ?_
      refine xw_aldo (x := l0) (show xm_Imp g Γ 429 (xi_ald 0 430) from xs_aload_n hΓ dL_law_429) rfl ?_
      refine xw_ild (show xm_Imp g Γ 430 (xi_ild 5 432) from xs_iload hΓ dL_law_430) rfl ?_
      refine xw_psh (v := (.int (2))) (show xm_Imp g Γ 432 (xi_psh (.int (2)) 433) from xs_iconst hΓ dL_law_432 (by decide)) ?_
      refine xw_ii (show xm_Imp g Γ 433 (xi_ii (fun x y => x + y) 434) from xs_iadd hΓ dL_law_433) ?_
      obtain ⟨v88, e1, e⟩ := e
      refine xw_hial (o := l0) (show xm_Imp g Γ 434 (xi_ial 435) from xs_ial hG hΓ dL_law_434) ha86 e1 ?_
      refine xw_aldo (x := l3) (show xm_Imp g Γ 435 (xi_ald 3 436) from xs_aload_n hΓ dL_law_435) rfl ?_
      obtain ⟨m89, m90, ⟨em1, em2⟩, e⟩ := e
      refine xw_tsi4 (show xm_Imp g Γ 436 (xi_inv g M_X0_operation 12 4 439) from xs_invSW hG hΓ k_X0_operation rfl q1827 q1828 dL_law_436) rfl em1 em2 (K_X0_operation hG l1 v87 v88 l3 _ _ _ e) (fun v92 h91 e => ?_)
      refine xw_ist (ls' := [some (va_rf l0), some (va_rf l1), some (va_rf l2), some (va_rf l3), some (va_rf l4), some (.int l5), some (.int v92), none, none]) (show xm_Imp g Γ 439 (xi_ist 6 441) from xs_istore hΓ dL_law_439 (Nat.le_of_ble_eq_true rfl)) rfl ?_
      refine xw_aldo (x := l2) (show xm_Imp g Γ 441 (xi_ald 2 442) from xs_aload_n hΓ dL_law_441) rfl ?_
      refine xw_aldo (x := l0) (show xm_Imp g Γ 442 (xi_ald 0 443) from xs_aload_n hΓ dL_law_442) rfl ?_
      refine xw_ild (show xm_Imp g Γ 443 (xi_ild 5 445) from xs_iload hΓ dL_law_443) rfl ?_
      refine xw_psh (v := (.int (1))) (show xm_Imp g Γ 445 (xi_psh (.int (1)) 446) from xs_iconst hΓ dL_law_445 (by decide)) ?_
      refine xw_ii (show xm_Imp g Γ 446 (xi_ii (fun x y => x + y) 447) from xs_iadd hΓ dL_law_446) ?_
      obtain ⟨v93, e1, e⟩ := e
      refine xw_hial (o := l0) (show xm_Imp g Γ 447 (xi_ial 448) from xs_ial hG hΓ dL_law_447) ha86 e1 ?_
      refine xw_aldo (x := l0) (show xm_Imp g Γ 448 (xi_ald 0 449) from xs_aload_n hΓ dL_law_448) rfl ?_
      refine xw_ild (show xm_Imp g Γ 449 (xi_ild 5 451) from xs_iload hΓ dL_law_449) rfl ?_
      refine xw_psh (v := (.int (2))) (show xm_Imp g Γ 451 (xi_psh (.int (2)) 452) from xs_iconst hΓ dL_law_451 (by decide)) ?_
      refine xw_ii (show xm_Imp g Γ 452 (xi_ii (fun x y => x + y) 453) from xs_iadd hΓ dL_law_452) ?_
      obtain ⟨v94, e1, e⟩ := e
      refine xw_hial (o := l0) (show xm_Imp g Γ 453 (xi_ial 454) from xs_ial hG hΓ dL_law_453) ha86 e1 ?_
      obtain ⟨a95, ha95, e⟩ := e
      obtain ⟨ad96, σ97, hMad96, hBad96, hhad96, e⟩ := e
      obtain ⟨v98, e1, e⟩ := e
      refine xw_hv2 (o := l2) (u := ()) (show xm_Imp g Γ 454 (xi_vir g 4 M_X5_operation 2 2 457) from xs_invV hG hΓ k_X5_operation rfl (ci := 4) rfl q3160 q3161 q3162 dL_law_454) (by simp [xm_stk, xv_cat, xc_int, xc_long, xc_float, xc_double, xc_ref]) ha95 (xM_is hhad96) (xM_run hhad96 (fun Q X hQ => K_X5_operation hG hMad96 hBad96 v93 v94 σ97 e1 hQ)) ?_
      refine xw_ist (ls' := [some (va_rf l0), some (va_rf l1), some (va_rf l2), some (va_rf l3), some (va_rf l4), some (.int l5), some (.int v92), some (.int v98.1), none]) (show xm_Imp g Γ 457 (xi_ist 7 459) from xs_istore hΓ dL_law_457 (Nat.le_of_ble_eq_true rfl)) rfl ?_
      refine xw_aldo (x := l2) (show xm_Imp g Γ 459 (xi_ald 2 460) from xs_aload_n hΓ dL_law_459) rfl ?_
      obtain ⟨ad99, σ100, hMad99, hBad99, hhad99, e⟩ := e
      obtain ⟨v101, e1, e⟩ := e
      refine xw_hv0 (o := l2) (u := ()) (show xm_Imp g Γ 460 (xi_vir g 4 M_X5_thrown 1 0 463) from xs_invV hG hΓ k_X5_thrown rfl (ci := 4) rfl q2978 q2979 q2980 dL_law_460) (by simp [xm_stk, xv_cat, xc_int, xc_long, xc_float, xc_double, xc_ref]) ha95 (xM_is hhad99) (xM_run0 hhad99 (fun Q X hQ => K_X5_thrown hG hMad99 hBad99 σ100 (Option.some.inj e1) hQ)) ?_
      refine xw_ild (show xm_Imp g Γ 463 (xi_ild 6 465) from xs_iload hΓ dL_law_463) rfl ?_
      refine xw_ic (show xm_Imp g Γ 465 (xi_ic (fun x y => x = y) 470 468) from xs_icmp_eq hΓ dL_law_465 (by decide)) (fun c => ?_) (fun c => ?_)
      · rw [if_pos c] at e
        refine xw_ild (show xm_Imp g Γ 470 (xi_ild 6 472) from xs_iload hΓ dL_law_470) rfl ?_
        refine xw_if (show xm_Imp g Γ 472 (xi_if (fun x => x = 0) 475 487) from xs_if_ne hΓ dL_law_472 (by decide)) (fun c => ?_) (fun c => ?_)
        · rw [if_pos c] at e
          refine xw_aldo (x := l3) (show xm_Imp g Γ 475 (xi_ald 3 476) from xs_aload_n hΓ dL_law_475) rfl ?_
          refine xw_psh (v := (.int (0))) (show xm_Imp g Γ 476 (xi_psh (.int (0)) 477) from xs_iconst hΓ dL_law_476 (by decide)) ?_
          obtain ⟨a102, ha102, e⟩ := e
          obtain ⟨v103, e1, e⟩ := e
          refine xw_hlal (o := l3) (show xm_Imp g Γ 477 (xi_lal 478) from xs_lal hG hΓ dL_law_477) ha102 e1 ?_
          refine xw_ild (show xm_Imp g Γ 478 (xi_ild 7 480) from xs_iload hΓ dL_law_478) rfl ?_
          refine xw_i2l (show xm_Imp g Γ 480 (xi_i2l 481) from xs_i2l hΓ dL_law_480) ?_
          refine xw_lcmp (show xm_Imp g Γ 481 (xi_lcmp 482) from xs_lcmp hΓ dL_law_481) ?_
          refine xw_if (show xm_Imp g Γ 482 (xi_if (fun x => x = 0) 487 485) from xs_if_eq hΓ dL_law_482 (by decide)) (fun c => ?_) (fun c => ?_)
          · rw [if_pos c] at e
            exact xm_lx (hB_487 _ _ _ _ e) (And.intro rfl (And.intro rfl (And.intro rfl (And.intro rfl (And.intro rfl (And.intro rfl (trivial)))))))
          · rw [if_neg c] at e
            refine xw_psh (v := (.int (0))) (show xm_Imp g Γ 485 (xi_psh (.int (0)) 486) from xs_iconst hΓ dL_law_485 (by decide)) ?_
            exact xw_iret (show xm_Imp g Γ 486 (xi_iret .boolean _) from xs_ireturn hΓ rfl dL_law_486) rfl ⟨_, rfl, e⟩
        · rw [if_neg c] at e
          exact xm_lx (hB_487 _ _ _ _ e) (And.intro rfl (And.intro rfl (And.intro rfl (And.intro rfl (And.intro rfl (And.intro rfl (trivial)))))))
      · rw [if_neg c] at e
        refine xw_psh (v := (.int (0))) (show xm_Imp g Γ 468 (xi_psh (.int (0)) 469) from xs_iconst hΓ dL_law_468 (by decide)) ?_
        exact xw_iret (show xm_Imp g Γ 469 (xi_iret .boolean _) from xs_ireturn hΓ rfl dL_law_469) rfl ⟨_, rfl, e⟩
    have hB_567 : ∀ (l5 : Int32) (h : xm_H) (bc : Nat) (bs : Nat), B_L_law_567 g l0 l1 l2 l3 l4 l5 h bc bs k28 Q → xm_W g Γ 567 [some (va_rf l0), some (va_rf l1), some (va_rf l2), some (va_rf l3), some (va_rf l4), some (.int l5), none, none, none] [] h bc bs := by
      intro l5 h bc bs e
      unfold B_L_law_567 at e
      refine xw_goto (show xm_Imp g Γ 567 (xi_goto 2924) from xs_goto hΓ dL_law_567 (by decide)) ?_
      exact hB_2924 _ _ _ _ e
    have hB_490 : ∀ (l5 : Int32) (h : xm_H) (bc : Nat) (bs : Nat), B_L_law_490 g l0 l1 l2 l3 l4 l5 h bc bs k28 Q → xm_W g Γ 490 [some (va_rf l0), some (va_rf l1), some (va_rf l2), some (va_rf l3), some (va_rf l4), some (.int l5), none, none, none] [] h bc bs := by
      intro l5 h bc bs e
      unfold B_L_law_490 at e
      refine xw_aldo (x := l1) (show xm_Imp g Γ 490 (xi_ald 1 491) from xs_aload_n hΓ dL_law_490) rfl ?_
      refine xw_aldo (x := l0) (show xm_Imp g Γ 491 (xi_ald 0 492) from xs_aload_n hΓ dL_law_491) rfl ?_
      refine xw_ild (show xm_Imp g Γ 492 (xi_ild 5 494) from xs_iload hΓ dL_law_492) rfl ?_
      refine xw_psh (v := (.int (1))) (show xm_Imp g Γ 494 (xi_psh (.int (1)) 495) from xs_iconst hΓ dL_law_494 (by decide)) ?_
      refine xw_ii (show xm_Imp g Γ 495 (xi_ii (fun x y => x + y) 496) from xs_iadd hΓ dL_law_495) ?_
      obtain ⟨a104, ha104, e⟩ := e
      obtain ⟨v105, e1, e⟩ := e
      refine xw_hial (o := l0) (show xm_Imp g Γ 496 (xi_ial 497) from xs_ial hG hΓ dL_law_496) ha104 e1 ?_
      refine xw_aldo (x := l0) (show xm_Imp g Γ 497 (xi_ald 0 498) from xs_aload_n hΓ dL_law_497) rfl ?_
      refine xw_ild (show xm_Imp g Γ 498 (xi_ild 5 500) from xs_iload hΓ dL_law_498) rfl ?_
      refine xw_psh (v := (.int (2))) (show xm_Imp g Γ 500 (xi_psh (.int (2)) 501) from xs_iconst hΓ dL_law_500 (by decide)) ?_
      refine xw_ii (show xm_Imp g Γ 501 (xi_ii (fun x y => x + y) 502) from xs_iadd hΓ dL_law_501) ?_
      obtain ⟨v106, e1, e⟩ := e
      refine xw_hial (o := l0) (show xm_Imp g Γ 502 (xi_ial 503) from xs_ial hG hΓ dL_law_502) ha104 e1 ?_
      refine xw_aldo (x := l0) (show xm_Imp g Γ 503 (xi_ald 0 504) from xs_aload_n hΓ dL_law_503) rfl ?_
      refine xw_ild (show xm_Imp g Γ 504 (xi_ild 5 506) from xs_iload hΓ dL_law_504) rfl ?_
      refine xw_psh (v := (.int (3))) (show xm_Imp g Γ 506 (xi_psh (.int (3)) 507) from xs_iconst hΓ dL_law_506 (by decide)) ?_
      refine xw_ii (show xm_Imp g Γ 507 (xi_ii (fun x y => x + y) 508) from xs_iadd hΓ dL_law_507) ?_
      obtain ⟨v107, e1, e⟩ := e
      refine xw_hial (o := l0) (show xm_Imp g Γ 508 (xi_ial 509) from xs_ial hG hΓ dL_law_508) ha104 e1 ?_
      refine xw_aldo (x := l3) (show xm_Imp g Γ 509 (xi_ald 3 510) from xs_aload_n hΓ dL_law_509) rfl ?_
      obtain ⟨m108, m109, ⟨em1, em2⟩, e⟩ := e
      refine xw_tsi5 (show xm_Imp g Γ 510 (xi_inv g M_X0_gate 14 5 513) from xs_invSW hG hΓ k_X0_gate rfl q1855 q1856 dL_law_510) rfl em1 em2 (K_X0_gate hG l1 v105 v106 v107 l3 _ _ _ e) (fun v111 h110 e => ?_)
      refine xw_ist (ls' := [some (va_rf l0), some (va_rf l1), some (va_rf l2), some (va_rf l3), some (va_rf l4), some (.int l5), some (.int v111), none, none]) (show xm_Imp g Γ 513 (xi_ist 6 515) from xs_istore hΓ dL_law_513 (Nat.le_of_ble_eq_true rfl)) rfl ?_
      refine xw_aldo (x := l2) (show xm_Imp g Γ 515 (xi_ald 2 516) from xs_aload_n hΓ dL_law_515) rfl ?_
      refine xw_aldo (x := l0) (show xm_Imp g Γ 516 (xi_ald 0 517) from xs_aload_n hΓ dL_law_516) rfl ?_
      refine xw_ild (show xm_Imp g Γ 517 (xi_ild 5 519) from xs_iload hΓ dL_law_517) rfl ?_
      refine xw_psh (v := (.int (1))) (show xm_Imp g Γ 519 (xi_psh (.int (1)) 520) from xs_iconst hΓ dL_law_519 (by decide)) ?_
      refine xw_ii (show xm_Imp g Γ 520 (xi_ii (fun x y => x + y) 521) from xs_iadd hΓ dL_law_520) ?_
      obtain ⟨v112, e1, e⟩ := e
      refine xw_hial (o := l0) (show xm_Imp g Γ 521 (xi_ial 522) from xs_ial hG hΓ dL_law_521) ha104 e1 ?_
      refine xw_aldo (x := l0) (show xm_Imp g Γ 522 (xi_ald 0 523) from xs_aload_n hΓ dL_law_522) rfl ?_
      refine xw_ild (show xm_Imp g Γ 523 (xi_ild 5 525) from xs_iload hΓ dL_law_523) rfl ?_
      refine xw_psh (v := (.int (2))) (show xm_Imp g Γ 525 (xi_psh (.int (2)) 526) from xs_iconst hΓ dL_law_525 (by decide)) ?_
      refine xw_ii (show xm_Imp g Γ 526 (xi_ii (fun x y => x + y) 527) from xs_iadd hΓ dL_law_526) ?_
      obtain ⟨v113, e1, e⟩ := e
      refine xw_hial (o := l0) (show xm_Imp g Γ 527 (xi_ial 528) from xs_ial hG hΓ dL_law_527) ha104 e1 ?_
      refine xw_aldo (x := l0) (show xm_Imp g Γ 528 (xi_ald 0 529) from xs_aload_n hΓ dL_law_528) rfl ?_
      refine xw_ild (show xm_Imp g Γ 529 (xi_ild 5 531) from xs_iload hΓ dL_law_529) rfl ?_
      refine xw_psh (v := (.int (3))) (show xm_Imp g Γ 531 (xi_psh (.int (3)) 532) from xs_iconst hΓ dL_law_531 (by decide)) ?_
      refine xw_ii (show xm_Imp g Γ 532 (xi_ii (fun x y => x + y) 533) from xs_iadd hΓ dL_law_532) ?_
      obtain ⟨v114, e1, e⟩ := e
      refine xw_hial (o := l0) (show xm_Imp g Γ 533 (xi_ial 534) from xs_ial hG hΓ dL_law_533) ha104 e1 ?_
      obtain ⟨a115, ha115, e⟩ := e
      obtain ⟨ad116, σ117, hMad116, hBad116, hhad116, e⟩ := e
      obtain ⟨v118, e1, e⟩ := e
      refine xw_hv3 (o := l2) (u := ()) (show xm_Imp g Γ 534 (xi_vir g 4 M_X5_gate 6 3 537) from xs_invV hG hΓ k_X5_gate rfl (ci := 4) rfl q2990 q2991 q2992 dL_law_534) (by simp [xm_stk, xv_cat, xc_int, xc_long, xc_float, xc_double, xc_ref]) ha115 (xM_is hhad116) (xM_run hhad116 (fun Q X hQ => K_X5_gate hG hMad116 hBad116 v112 v113 v114 σ117 e1 hQ)) ?_
      refine xw_ist (ls' := [some (va_rf l0), some (va_rf l1), some (va_rf l2), some (va_rf l3), some (va_rf l4), some (.int l5), some (.int v111), some (.int v118.1), none]) (show xm_Imp g Γ 537 (xi_ist 7 539) from xs_istore hΓ dL_law_537 (Nat.le_of_ble_eq_true rfl)) rfl ?_
      refine xw_aldo (x := l2) (show xm_Imp g Γ 539 (xi_ald 2 540) from xs_aload_n hΓ dL_law_539) rfl ?_
      obtain ⟨ad119, σ120, hMad119, hBad119, hhad119, e⟩ := e
      obtain ⟨v121, e1, e⟩ := e
      refine xw_hv0 (o := l2) (u := ()) (show xm_Imp g Γ 540 (xi_vir g 4 M_X5_thrown 1 0 543) from xs_invV hG hΓ k_X5_thrown rfl (ci := 4) rfl q2978 q2979 q2980 dL_law_540) (by simp [xm_stk, xv_cat, xc_int, xc_long, xc_float, xc_double, xc_ref]) ha115 (xM_is hhad119) (xM_run0 hhad119 (fun Q X hQ => K_X5_thrown hG hMad119 hBad119 σ120 (Option.some.inj e1) hQ)) ?_
      refine xw_ild (show xm_Imp g Γ 543 (xi_ild 6 545) from xs_iload hΓ dL_law_543) rfl ?_
      refine xw_ic (show xm_Imp g Γ 545 (xi_ic (fun x y => x = y) 550 548) from xs_icmp_eq hΓ dL_law_545 (by decide)) (fun c => ?_) (fun c => ?_)
      · rw [if_pos c] at e
        refine xw_ild (show xm_Imp g Γ 550 (xi_ild 6 552) from xs_iload hΓ dL_law_550) rfl ?_
        refine xw_if (show xm_Imp g Γ 552 (xi_if (fun x => x = 0) 555 567) from xs_if_ne hΓ dL_law_552 (by decide)) (fun c => ?_) (fun c => ?_)
        · rw [if_pos c] at e
          refine xw_aldo (x := l3) (show xm_Imp g Γ 555 (xi_ald 3 556) from xs_aload_n hΓ dL_law_555) rfl ?_
          refine xw_psh (v := (.int (0))) (show xm_Imp g Γ 556 (xi_psh (.int (0)) 557) from xs_iconst hΓ dL_law_556 (by decide)) ?_
          obtain ⟨a122, ha122, e⟩ := e
          obtain ⟨v123, e1, e⟩ := e
          refine xw_hlal (o := l3) (show xm_Imp g Γ 557 (xi_lal 558) from xs_lal hG hΓ dL_law_557) ha122 e1 ?_
          refine xw_ild (show xm_Imp g Γ 558 (xi_ild 7 560) from xs_iload hΓ dL_law_558) rfl ?_
          refine xw_i2l (show xm_Imp g Γ 560 (xi_i2l 561) from xs_i2l hΓ dL_law_560) ?_
          refine xw_lcmp (show xm_Imp g Γ 561 (xi_lcmp 562) from xs_lcmp hΓ dL_law_561) ?_
          refine xw_if (show xm_Imp g Γ 562 (xi_if (fun x => x = 0) 567 565) from xs_if_eq hΓ dL_law_562 (by decide)) (fun c => ?_) (fun c => ?_)
          · rw [if_pos c] at e
            exact xm_lx (hB_567 _ _ _ _ e) (And.intro rfl (And.intro rfl (And.intro rfl (And.intro rfl (And.intro rfl (And.intro rfl (trivial)))))))
          · rw [if_neg c] at e
            refine xw_psh (v := (.int (0))) (show xm_Imp g Γ 565 (xi_psh (.int (0)) 566) from xs_iconst hΓ dL_law_565 (by decide)) ?_
            exact xw_iret (show xm_Imp g Γ 566 (xi_iret .boolean _) from xs_ireturn hΓ rfl dL_law_566) rfl ⟨_, rfl, e⟩
        · rw [if_neg c] at e
          exact xm_lx (hB_567 _ _ _ _ e) (And.intro rfl (And.intro rfl (And.intro rfl (And.intro rfl (And.intro rfl (And.intro rfl (trivial)))))))
      · rw [if_neg c] at e
        refine xw_psh (v := (.int (0))) (show xm_Imp g Γ 548 (xi_psh (.int (0)) 549) from xs_iconst hΓ dL_law_548 (by decide)) ?_
        exact xw_iret (show xm_Imp g Γ 549 (xi_iret .boolean _) from xs_ireturn hΓ rfl dL_law_549) rfl ⟨_, rfl, e⟩
    have hB_675 : ∀ (l5 : Int32) (h : xm_H) (bc : Nat) (bs : Nat), B_L_law_675 g l0 l1 l2 l3 l4 l5 h bc bs k28 Q → xm_W g Γ 675 [some (va_rf l0), some (va_rf l1), some (va_rf l2), some (va_rf l3), some (va_rf l4), some (.int l5), none, none, none] [] h bc bs := by
      intro l5 h bc bs e
      unfold B_L_law_675 at e
      refine xw_goto (show xm_Imp g Γ 675 (xi_goto 2924) from xs_goto hΓ dL_law_675 (by decide)) ?_
      exact hB_2924 _ _ _ _ e
    have hB_636 : ∀ (l5 : Int32) (l6 : Int32) (s0 : Option Nat) (s1 : Int32) (s2 : Int32) (s3 : Int32) (h : xm_H) (bc : Nat) (bs : Nat), B_L_law_636 g l0 l1 l2 l3 l4 l5 l6 s0 s1 s2 s3 h bc bs k28 Q → xm_W g Γ 636 [some (va_rf l0), some (va_rf l1), some (va_rf l2), some (va_rf l3), some (va_rf l4), some (.int l5), some (.int l6), none, none] [.int s3, .int s2, .int s1, va_rf s0] h bc bs := by
      intro l5 l6 s0 s1 s2 s3 h bc bs e
      unfold B_L_law_636 at e
      refine xw_aldo (x := l0) (show xm_Imp g Γ 636 (xi_ald 0 637) from xs_aload_n hΓ dL_law_636) rfl ?_
      refine xw_ild (show xm_Imp g Γ 637 (xi_ild 5 639) from xs_iload hΓ dL_law_637) rfl ?_
      refine xw_psh (v := (.int (4))) (show xm_Imp g Γ 639 (xi_psh (.int (4)) 640) from xs_iconst hΓ dL_law_639 (by decide)) ?_
      refine xw_ii (show xm_Imp g Γ 640 (xi_ii (fun x y => x + y) 641) from xs_iadd hΓ dL_law_640) ?_
      obtain ⟨a137, ha137, e⟩ := e
      obtain ⟨v138, e1, e⟩ := e
      refine xw_hial (o := l0) (show xm_Imp g Γ 641 (xi_ial 642) from xs_ial hG hΓ dL_law_641) ha137 e1 ?_
      obtain ⟨a139, ha139, e⟩ := e
      obtain ⟨ad140, σ141, hMad140, hBad140, hhad140, e⟩ := e
      obtain ⟨v142, e1, e⟩ := e
      refine xw_hv4 (o := s0) (u := ()) (show xm_Imp g Γ 642 (xi_vir g 4 M_X5_measure 9 4 645) from xs_invV hG hΓ k_X5_measure rfl (ci := 4) rfl q3065 q3066 q3067 dL_law_642) (by simp [xm_stk, xv_cat, xc_int, xc_long, xc_float, xc_double, xc_ref]) ha139 (xM_is hhad140) (xM_run hhad140 (fun Q X hQ => K_X5_measure hG hMad140 hBad140 s1 s2 s3 v138 σ141 e1 hQ)) ?_
      refine xw_ist (ls' := [some (va_rf l0), some (va_rf l1), some (va_rf l2), some (va_rf l3), some (va_rf l4), some (.int l5), some (.int l6), some (.int v142.1), none]) (show xm_Imp g Γ 645 (xi_ist 7 647) from xs_istore hΓ dL_law_645 (Nat.le_of_ble_eq_true rfl)) rfl ?_
      refine xw_aldo (x := l2) (show xm_Imp g Γ 647 (xi_ald 2 648) from xs_aload_n hΓ dL_law_647) rfl ?_
      obtain ⟨a143, ha143, e⟩ := e
      obtain ⟨ad144, σ145, hMad144, hBad144, hhad144, e⟩ := e
      obtain ⟨v146, e1, e⟩ := e
      refine xw_hv0 (o := l2) (u := ()) (show xm_Imp g Γ 648 (xi_vir g 4 M_X5_thrown 1 0 651) from xs_invV hG hΓ k_X5_thrown rfl (ci := 4) rfl q2978 q2979 q2980 dL_law_648) (by simp [xm_stk, xv_cat, xc_int, xc_long, xc_float, xc_double, xc_ref]) ha143 (xM_is hhad144) (xM_run0 hhad144 (fun Q X hQ => K_X5_thrown hG hMad144 hBad144 σ145 (Option.some.inj e1) hQ)) ?_
      refine xw_ild (show xm_Imp g Γ 651 (xi_ild 6 653) from xs_iload hΓ dL_law_651) rfl ?_
      refine xw_ic (show xm_Imp g Γ 653 (xi_ic (fun x y => x = y) 658 656) from xs_icmp_eq hΓ dL_law_653 (by decide)) (fun c => ?_) (fun c => ?_)
      · rw [if_pos c] at e
        refine xw_ild (show xm_Imp g Γ 658 (xi_ild 6 660) from xs_iload hΓ dL_law_658) rfl ?_
        refine xw_if (show xm_Imp g Γ 660 (xi_if (fun x => x = 0) 663 675) from xs_if_ne hΓ dL_law_660 (by decide)) (fun c => ?_) (fun c => ?_)
        · rw [if_pos c] at e
          refine xw_aldo (x := l3) (show xm_Imp g Γ 663 (xi_ald 3 664) from xs_aload_n hΓ dL_law_663) rfl ?_
          refine xw_psh (v := (.int (0))) (show xm_Imp g Γ 664 (xi_psh (.int (0)) 665) from xs_iconst hΓ dL_law_664 (by decide)) ?_
          obtain ⟨a147, ha147, e⟩ := e
          obtain ⟨v148, e1, e⟩ := e
          refine xw_hlal (o := l3) (show xm_Imp g Γ 665 (xi_lal 666) from xs_lal hG hΓ dL_law_665) ha147 e1 ?_
          refine xw_ild (show xm_Imp g Γ 666 (xi_ild 7 668) from xs_iload hΓ dL_law_666) rfl ?_
          refine xw_i2l (show xm_Imp g Γ 668 (xi_i2l 669) from xs_i2l hΓ dL_law_668) ?_
          refine xw_lcmp (show xm_Imp g Γ 669 (xi_lcmp 670) from xs_lcmp hΓ dL_law_669) ?_
          refine xw_if (show xm_Imp g Γ 670 (xi_if (fun x => x = 0) 675 673) from xs_if_eq hΓ dL_law_670 (by decide)) (fun c => ?_) (fun c => ?_)
          · rw [if_pos c] at e
            exact xm_lx (hB_675 _ _ _ _ e) (And.intro rfl (And.intro rfl (And.intro rfl (And.intro rfl (And.intro rfl (And.intro rfl (trivial)))))))
          · rw [if_neg c] at e
            refine xw_psh (v := (.int (0))) (show xm_Imp g Γ 673 (xi_psh (.int (0)) 674) from xs_iconst hΓ dL_law_673 (by decide)) ?_
            exact xw_iret (show xm_Imp g Γ 674 (xi_iret .boolean _) from xs_ireturn hΓ rfl dL_law_674) rfl ⟨_, rfl, e⟩
        · rw [if_neg c] at e
          exact xm_lx (hB_675 _ _ _ _ e) (And.intro rfl (And.intro rfl (And.intro rfl (And.intro rfl (And.intro rfl (And.intro rfl (trivial)))))))
      · rw [if_neg c] at e
        refine xw_psh (v := (.int (0))) (show xm_Imp g Γ 656 (xi_psh (.int (0)) 657) from xs_iconst hΓ dL_law_656 (by decide)) ?_
        exact xw_iret (show xm_Imp g Γ 657 (xi_iret .boolean _) from xs_ireturn hΓ rfl dL_law_657) rfl ⟨_, rfl, e⟩
    have hB_597 : ∀ (l5 : Int32) (s0 : Option Nat) (s1 : Int32) (s2 : Int32) (s3 : Int32) (h : xm_H) (bc : Nat) (bs : Nat), B_L_law_597 g l0 l1 l2 l3 l4 l5 s0 s1 s2 s3 h bc bs k28 Q → xm_W g Γ 597 [some (va_rf l0), some (va_rf l1), some (va_rf l2), some (va_rf l3), some (va_rf l4), some (.int l5), none, none, none] [.int s3, .int s2, .int s1, va_rf s0] h bc bs := by
      intro l5 s0 s1 s2 s3 h bc bs e
      unfold B_L_law_597 at e
      refine xw_aldo (x := l0) (show xm_Imp g Γ 597 (xi_ald 0 598) from xs_aload_n hΓ dL_law_597) rfl ?_
      refine xw_ild (show xm_Imp g Γ 598 (xi_ild 5 600) from xs_iload hΓ dL_law_598) rfl ?_
      refine xw_psh (v := (.int (4))) (show xm_Imp g Γ 600 (xi_psh (.int (4)) 601) from xs_iconst hΓ dL_law_600 (by decide)) ?_
      refine xw_ii (show xm_Imp g Γ 601 (xi_ii (fun x y => x + y) 602) from xs_iadd hΓ dL_law_601) ?_
      obtain ⟨a128, ha128, e⟩ := e
      obtain ⟨v129, e1, e⟩ := e
      refine xw_hial (o := l0) (show xm_Imp g Γ 602 (xi_ial 603) from xs_ial hG hΓ dL_law_602) ha128 e1 ?_
      refine xw_aldo (x := l3) (show xm_Imp g Γ 603 (xi_ald 3 604) from xs_aload_n hΓ dL_law_603) rfl ?_
      obtain ⟨m130, m131, ⟨em1, em2⟩, e⟩ := e
      refine xw_tsi6 (show xm_Imp g Γ 604 (xi_inv g M_X0_measure 14 6 607) from xs_invSW hG hΓ k_X0_measure rfl q1877 q1878 dL_law_604) rfl em1 em2 (K_X0_measure hG s0 s1 s2 s3 v129 l3 _ _ _ e) (fun v133 h132 e => ?_)
      refine xw_ist (ls' := [some (va_rf l0), some (va_rf l1), some (va_rf l2), some (va_rf l3), some (va_rf l4), some (.int l5), some (.int v133), none, none]) (show xm_Imp g Γ 607 (xi_ist 6 609) from xs_istore hΓ dL_law_607 (Nat.le_of_ble_eq_true rfl)) rfl ?_
      refine xw_aldo (x := l2) (show xm_Imp g Γ 609 (xi_ald 2 610) from xs_aload_n hΓ dL_law_609) rfl ?_
      refine xw_aldo (x := l0) (show xm_Imp g Γ 610 (xi_ald 0 611) from xs_aload_n hΓ dL_law_610) rfl ?_
      refine xw_ild (show xm_Imp g Γ 611 (xi_ild 5 613) from xs_iload hΓ dL_law_611) rfl ?_
      refine xw_psh (v := (.int (1))) (show xm_Imp g Γ 613 (xi_psh (.int (1)) 614) from xs_iconst hΓ dL_law_613 (by decide)) ?_
      refine xw_ii (show xm_Imp g Γ 614 (xi_ii (fun x y => x + y) 615) from xs_iadd hΓ dL_law_614) ?_
      obtain ⟨v134, e1, e⟩ := e
      refine xw_hial (o := l0) (show xm_Imp g Γ 615 (xi_ial 616) from xs_ial hG hΓ dL_law_615) ha128 e1 ?_
      refine xw_aldo (x := l0) (show xm_Imp g Γ 616 (xi_ald 0 617) from xs_aload_n hΓ dL_law_616) rfl ?_
      refine xw_ild (show xm_Imp g Γ 617 (xi_ild 5 619) from xs_iload hΓ dL_law_617) rfl ?_
      refine xw_psh (v := (.int (2))) (show xm_Imp g Γ 619 (xi_psh (.int (2)) 620) from xs_iconst hΓ dL_law_619 (by decide)) ?_
      refine xw_ii (show xm_Imp g Γ 620 (xi_ii (fun x y => x + y) 621) from xs_iadd hΓ dL_law_620) ?_
      obtain ⟨v135, e1, e⟩ := e
      refine xw_hial (o := l0) (show xm_Imp g Γ 621 (xi_ial 622) from xs_ial hG hΓ dL_law_621) ha128 e1 ?_
      refine xw_aldo (x := l0) (show xm_Imp g Γ 622 (xi_ald 0 623) from xs_aload_n hΓ dL_law_622) rfl ?_
      refine xw_ild (show xm_Imp g Γ 623 (xi_ild 5 625) from xs_iload hΓ dL_law_623) rfl ?_
      refine xw_psh (v := (.int (3))) (show xm_Imp g Γ 625 (xi_psh (.int (3)) 626) from xs_iconst hΓ dL_law_625 (by decide)) ?_
      refine xw_ii (show xm_Imp g Γ 626 (xi_ii (fun x y => x + y) 627) from xs_iadd hΓ dL_law_626) ?_
      obtain ⟨v136, e1, e⟩ := e
      refine xw_hial (o := l0) (show xm_Imp g Γ 627 (xi_ial 628) from xs_ial hG hΓ dL_law_627) ha128 e1 ?_
      refine xw_if (show xm_Imp g Γ 628 (xi_if (fun x => x = 0) 635 631) from xs_if_eq hΓ dL_law_628 (by decide)) (fun c => ?_) (fun c => ?_)
      · rw [if_pos c] at e
        refine xw_psh (v := (.int (0))) (show xm_Imp g Γ 635 (xi_psh (.int (0)) 636) from xs_iconst hΓ dL_law_635 (by decide)) ?_
        exact hB_636 _ _ _ _ _ _ _ _ _ e
      · rw [if_neg c] at e
        refine xw_psh (v := (.int (1))) (show xm_Imp g Γ 631 (xi_psh (.int (1)) 632) from xs_iconst hΓ dL_law_631 (by decide)) ?_
        refine xw_goto (show xm_Imp g Γ 632 (xi_goto 636) from xs_goto hΓ dL_law_632 (by decide)) ?_
        exact hB_636 _ _ _ _ _ _ _ _ _ e
    have hB_570 : ∀ (l5 : Int32) (h : xm_H) (bc : Nat) (bs : Nat), B_L_law_570 g l0 l1 l2 l3 l4 l5 h bc bs k28 Q → xm_W g Γ 570 [some (va_rf l0), some (va_rf l1), some (va_rf l2), some (va_rf l3), some (va_rf l4), some (.int l5), none, none, none] [] h bc bs := by
      intro l5 h bc bs e
      unfold B_L_law_570 at e
      refine xw_aldo (x := l1) (show xm_Imp g Γ 570 (xi_ald 1 571) from xs_aload_n hΓ dL_law_570) rfl ?_
      refine xw_aldo (x := l0) (show xm_Imp g Γ 571 (xi_ald 0 572) from xs_aload_n hΓ dL_law_571) rfl ?_
      refine xw_ild (show xm_Imp g Γ 572 (xi_ild 5 574) from xs_iload hΓ dL_law_572) rfl ?_
      refine xw_psh (v := (.int (1))) (show xm_Imp g Γ 574 (xi_psh (.int (1)) 575) from xs_iconst hΓ dL_law_574 (by decide)) ?_
      refine xw_ii (show xm_Imp g Γ 575 (xi_ii (fun x y => x + y) 576) from xs_iadd hΓ dL_law_575) ?_
      obtain ⟨a124, ha124, e⟩ := e
      obtain ⟨v125, e1, e⟩ := e
      refine xw_hial (o := l0) (show xm_Imp g Γ 576 (xi_ial 577) from xs_ial hG hΓ dL_law_576) ha124 e1 ?_
      refine xw_aldo (x := l0) (show xm_Imp g Γ 577 (xi_ald 0 578) from xs_aload_n hΓ dL_law_577) rfl ?_
      refine xw_ild (show xm_Imp g Γ 578 (xi_ild 5 580) from xs_iload hΓ dL_law_578) rfl ?_
      refine xw_psh (v := (.int (2))) (show xm_Imp g Γ 580 (xi_psh (.int (2)) 581) from xs_iconst hΓ dL_law_580 (by decide)) ?_
      refine xw_ii (show xm_Imp g Γ 581 (xi_ii (fun x y => x + y) 582) from xs_iadd hΓ dL_law_581) ?_
      obtain ⟨v126, e1, e⟩ := e
      refine xw_hial (o := l0) (show xm_Imp g Γ 582 (xi_ial 583) from xs_ial hG hΓ dL_law_582) ha124 e1 ?_
      refine xw_aldo (x := l0) (show xm_Imp g Γ 583 (xi_ald 0 584) from xs_aload_n hΓ dL_law_583) rfl ?_
      refine xw_ild (show xm_Imp g Γ 584 (xi_ild 5 586) from xs_iload hΓ dL_law_584) rfl ?_
      refine xw_psh (v := (.int (3))) (show xm_Imp g Γ 586 (xi_psh (.int (3)) 587) from xs_iconst hΓ dL_law_586 (by decide)) ?_
      refine xw_ii (show xm_Imp g Γ 587 (xi_ii (fun x y => x + y) 588) from xs_iadd hΓ dL_law_587) ?_
      obtain ⟨v127, e1, e⟩ := e
      refine xw_hial (o := l0) (show xm_Imp g Γ 588 (xi_ial 589) from xs_ial hG hΓ dL_law_588) ha124 e1 ?_
      refine xw_if (show xm_Imp g Γ 589 (xi_if (fun x => x = 0) 596 592) from xs_if_eq hΓ dL_law_589 (by decide)) (fun c => ?_) (fun c => ?_)
      · rw [if_pos c] at e
        refine xw_psh (v := (.int (0))) (show xm_Imp g Γ 596 (xi_psh (.int (0)) 597) from xs_iconst hΓ dL_law_596 (by decide)) ?_
        exact hB_597 _ _ _ _ _ _ _ _ e
      · rw [if_neg c] at e
        refine xw_psh (v := (.int (1))) (show xm_Imp g Γ 592 (xi_psh (.int (1)) 593) from xs_iconst hΓ dL_law_592 (by decide)) ?_
        refine xw_goto (show xm_Imp g Γ 593 (xi_goto 597) from xs_goto hΓ dL_law_593 (by decide)) ?_
        exact hB_597 _ _ _ _ _ _ _ _ e
    have hB_719 : ∀ (l5 : Int32) (h : xm_H) (bc : Nat) (bs : Nat), B_L_law_719 g l0 l1 l2 l3 l4 l5 h bc bs k28 Q → xm_W g Γ 719 [some (va_rf l0), some (va_rf l1), some (va_rf l2), some (va_rf l3), some (va_rf l4), some (.int l5), none, none, none] [] h bc bs := by
      intro l5 h bc bs e
      unfold B_L_law_719 at e
      refine xw_goto (show xm_Imp g Γ 719 (xi_goto 2924) from xs_goto hΓ dL_law_719 (by decide)) ?_
      exact hB_2924 _ _ _ _ e
    have hB_678 : ∀ (l5 : Int32) (h : xm_H) (bc : Nat) (bs : Nat), B_L_law_678 g l0 l1 l2 l3 l4 l5 h bc bs k28 Q → xm_W g Γ 678 [some (va_rf l0), some (va_rf l1), some (va_rf l2), some (va_rf l3), some (va_rf l4), some (.int l5), none, none, none] [] h bc bs := by
      intro l5 h bc bs e
      unfold B_L_law_678 at e
      refine xw_aldo (x := l1) (show xm_Imp g Γ 678 (xi_ald 1 679) from xs_aload_n hΓ dL_law_678) rfl ?_
      refine xw_aldo (x := l3) (show xm_Imp g Γ 679 (xi_ald 3 680) from xs_aload_n hΓ dL_law_679) rfl ?_
      obtain ⟨m149, m150, ⟨em1, em2⟩, e⟩ := e
      refine xw_tsi2 (show xm_Imp g Γ 680 (xi_inv g M_X0_measureAll 14 2 683) from xs_invSW hG hΓ k_X0_measureAll rfl q1900 q1901 dL_law_680) rfl em1 em2 (K_X0_measureAll hG l1 l3 _ _ _ e) (fun v152 h151 e => ?_)
      refine xw_ist (ls' := [some (va_rf l0), some (va_rf l1), some (va_rf l2), some (va_rf l3), some (va_rf l4), some (.int l5), some (.int v152), none, none]) (show xm_Imp g Γ 683 (xi_ist 6 685) from xs_istore hΓ dL_law_683 (Nat.le_of_ble_eq_true rfl)) rfl ?_
      refine xw_aldo (x := l2) (show xm_Imp g Γ 685 (xi_ald 2 686) from xs_aload_n hΓ dL_law_685) rfl ?_
      obtain ⟨a153, ha153, e⟩ := e
      obtain ⟨ad154, σ155, hMad154, hBad154, hhad154, e⟩ := e
      obtain ⟨v156, e1, e⟩ := e
      refine xw_hv0 (o := l2) (u := ()) (show xm_Imp g Γ 686 (xi_vir g 4 M_X5_measureAll 9 0 689) from xs_invV hG hΓ k_X5_measureAll rfl (ci := 4) rfl q3127 q3128 q3129 dL_law_686) (by simp [xm_stk, xv_cat, xc_int, xc_long, xc_float, xc_double, xc_ref]) ha153 (xM_is hhad154) (xM_run hhad154 (fun Q X hQ => K_X5_measureAll hG hMad154 hBad154 σ155 e1 hQ)) ?_
      refine xw_ist (ls' := [some (va_rf l0), some (va_rf l1), some (va_rf l2), some (va_rf l3), some (va_rf l4), some (.int l5), some (.int v152), some (.int v156.1), none]) (show xm_Imp g Γ 689 (xi_ist 7 691) from xs_istore hΓ dL_law_689 (Nat.le_of_ble_eq_true rfl)) rfl ?_
      refine xw_aldo (x := l2) (show xm_Imp g Γ 691 (xi_ald 2 692) from xs_aload_n hΓ dL_law_691) rfl ?_
      obtain ⟨ad157, σ158, hMad157, hBad157, hhad157, e⟩ := e
      obtain ⟨v159, e1, e⟩ := e
      refine xw_hv0 (o := l2) (u := ()) (show xm_Imp g Γ 692 (xi_vir g 4 M_X5_thrown 1 0 695) from xs_invV hG hΓ k_X5_thrown rfl (ci := 4) rfl q2978 q2979 q2980 dL_law_692) (by simp [xm_stk, xv_cat, xc_int, xc_long, xc_float, xc_double, xc_ref]) ha153 (xM_is hhad157) (xM_run0 hhad157 (fun Q X hQ => K_X5_thrown hG hMad157 hBad157 σ158 (Option.some.inj e1) hQ)) ?_
      refine xw_ild (show xm_Imp g Γ 695 (xi_ild 6 697) from xs_iload hΓ dL_law_695) rfl ?_
      refine xw_ic (show xm_Imp g Γ 697 (xi_ic (fun x y => x = y) 702 700) from xs_icmp_eq hΓ dL_law_697 (by decide)) (fun c => ?_) (fun c => ?_)
      · rw [if_pos c] at e
        refine xw_ild (show xm_Imp g Γ 702 (xi_ild 6 704) from xs_iload hΓ dL_law_702) rfl ?_
        refine xw_if (show xm_Imp g Γ 704 (xi_if (fun x => x = 0) 707 719) from xs_if_ne hΓ dL_law_704 (by decide)) (fun c => ?_) (fun c => ?_)
        · rw [if_pos c] at e
          refine xw_aldo (x := l3) (show xm_Imp g Γ 707 (xi_ald 3 708) from xs_aload_n hΓ dL_law_707) rfl ?_
          refine xw_psh (v := (.int (0))) (show xm_Imp g Γ 708 (xi_psh (.int (0)) 709) from xs_iconst hΓ dL_law_708 (by decide)) ?_
          obtain ⟨a160, ha160, e⟩ := e
          obtain ⟨v161, e1, e⟩ := e
          refine xw_hlal (o := l3) (show xm_Imp g Γ 709 (xi_lal 710) from xs_lal hG hΓ dL_law_709) ha160 e1 ?_
          refine xw_ild (show xm_Imp g Γ 710 (xi_ild 7 712) from xs_iload hΓ dL_law_710) rfl ?_
          refine xw_i2l (show xm_Imp g Γ 712 (xi_i2l 713) from xs_i2l hΓ dL_law_712) ?_
          refine xw_lcmp (show xm_Imp g Γ 713 (xi_lcmp 714) from xs_lcmp hΓ dL_law_713) ?_
          refine xw_if (show xm_Imp g Γ 714 (xi_if (fun x => x = 0) 719 717) from xs_if_eq hΓ dL_law_714 (by decide)) (fun c => ?_) (fun c => ?_)
          · rw [if_pos c] at e
            exact xm_lx (hB_719 _ _ _ _ e) (And.intro rfl (And.intro rfl (And.intro rfl (And.intro rfl (And.intro rfl (And.intro rfl (trivial)))))))
          · rw [if_neg c] at e
            refine xw_psh (v := (.int (0))) (show xm_Imp g Γ 717 (xi_psh (.int (0)) 718) from xs_iconst hΓ dL_law_717 (by decide)) ?_
            exact xw_iret (show xm_Imp g Γ 718 (xi_iret .boolean _) from xs_ireturn hΓ rfl dL_law_718) rfl ⟨_, rfl, e⟩
        · rw [if_neg c] at e
          exact xm_lx (hB_719 _ _ _ _ e) (And.intro rfl (And.intro rfl (And.intro rfl (And.intro rfl (And.intro rfl (And.intro rfl (trivial)))))))
      · rw [if_neg c] at e
        refine xw_psh (v := (.int (0))) (show xm_Imp g Γ 700 (xi_psh (.int (0)) 701) from xs_iconst hΓ dL_law_700 (by decide)) ?_
        exact xw_iret (show xm_Imp g Γ 701 (xi_iret .boolean _) from xs_ireturn hΓ rfl dL_law_701) rfl ⟨_, rfl, e⟩
    have hB_722 : ∀ (l5 : Int32) (h : xm_H) (bc : Nat) (bs : Nat), B_L_law_722 g l0 l1 l2 l3 l4 l5 h bc bs k28 Q → xm_W g Γ 722 [some (va_rf l0), some (va_rf l1), some (va_rf l2), some (va_rf l3), some (va_rf l4), some (.int l5), none, none, none] [] h bc bs := by
      intro l5 h bc bs e
      unfold B_L_law_722 at e
      refine xw_aldo (x := l1) (show xm_Imp g Γ 722 (xi_ald 1 723) from xs_aload_n hΓ dL_law_722) rfl ?_
      obtain ⟨a162, ha162, e⟩ := e
      obtain ⟨_, e0, e⟩ := e
      obtain ⟨m163, m164, ⟨em1, em2⟩, e⟩ := e
      refine xw_tvi0 (o := l1) (show xm_Imp g Γ 723 (xi_vir g 0 M_X1_step 15 0 726) from xs_invV hG hΓ k_X1_step rfl (ci := 0) rfl q1172 q1173 q1174 dL_law_723) (by simp [xm_stk, xv_cat, xc_int, xc_long, xc_float, xc_double, xc_ref]) ha162 e0 em1 em2 (K_X1_step hG a162 _ _ _ e) (fun v166 h165 e => ?_)
      refine xw_aldo (x := l2) (show xm_Imp g Γ 726 (xi_ald 2 727) from xs_aload_n hΓ dL_law_726) rfl ?_
      obtain ⟨a167, ha167, e⟩ := e
      obtain ⟨ad168, σ169, hMad168, hBad168, hhad168, e⟩ := e
      obtain ⟨v170, e1, e⟩ := e
      refine xw_hv0 (o := l2) (u := ()) (show xm_Imp g Γ 727 (xi_vir g 4 M_X5_step 10 0 730) from xs_invV hG hΓ k_X5_step rfl (ci := 4) rfl q3131 q3132 q3133 dL_law_727) (by simp [xm_stk, xv_cat, xc_int, xc_long, xc_float, xc_double, xc_ref]) ha167 (xM_is hhad168) (xM_run hhad168 (fun Q X hQ => K_X5_step hG hMad168 hBad168 σ169 e1 hQ)) ?_
      refine xw_ic (show xm_Imp g Γ 730 (xi_ic (fun x y => x = y) 2924 733) from xs_icmp_eq hΓ dL_law_730 (by decide)) (fun c => ?_) (fun c => ?_)
      · rw [if_pos c] at e
        exact hB_2924 _ _ _ _ e
      · rw [if_neg c] at e
        refine xw_psh (v := (.int (0))) (show xm_Imp g Γ 733 (xi_psh (.int (0)) 734) from xs_iconst hΓ dL_law_733 (by decide)) ?_
        exact xw_iret (show xm_Imp g Γ 734 (xi_iret .boolean _) from xs_ireturn hΓ rfl dL_law_734) rfl ⟨_, rfl, e⟩
    have hB_788 : ∀ (l5 : Int32) (h : xm_H) (bc : Nat) (bs : Nat), B_L_law_788 g l0 l1 l2 l3 l4 l5 h bc bs k28 Q → xm_W g Γ 788 [some (va_rf l0), some (va_rf l1), some (va_rf l2), some (va_rf l3), some (va_rf l4), some (.int l5), none, none, none] [] h bc bs := by
      intro l5 h bc bs e
      unfold B_L_law_788 at e
      refine xw_goto (show xm_Imp g Γ 788 (xi_goto 2924) from xs_goto hΓ dL_law_788 (by decide)) ?_
      exact hB_2924 _ _ _ _ e
    have hB_735 : ∀ (l5 : Int32) (h : xm_H) (bc : Nat) (bs : Nat), B_L_law_735 g l0 l1 l2 l3 l4 l5 h bc bs k28 Q → xm_W g Γ 735 [some (va_rf l0), some (va_rf l1), some (va_rf l2), some (va_rf l3), some (va_rf l4), some (.int l5), none, none, none] [] h bc bs := by
      intro l5 h bc bs e
      unfold B_L_law_735 at e
      refine xw_aldo (x := l1) (show xm_Imp g Γ 735 (xi_ald 1 736) from xs_aload_n hΓ dL_law_735) rfl ?_
      refine xw_aldo (x := l0) (show xm_Imp g Γ 736 (xi_ald 0 737) from xs_aload_n hΓ dL_law_736) rfl ?_
      refine xw_ild (show xm_Imp g Γ 737 (xi_ild 5 739) from xs_iload hΓ dL_law_737) rfl ?_
      refine xw_psh (v := (.int (1))) (show xm_Imp g Γ 739 (xi_psh (.int (1)) 740) from xs_iconst hΓ dL_law_739 (by decide)) ?_
      refine xw_ii (show xm_Imp g Γ 740 (xi_ii (fun x y => x + y) 741) from xs_iadd hΓ dL_law_740) ?_
      obtain ⟨a171, ha171, e⟩ := e
      obtain ⟨v172, e1, e⟩ := e
      refine xw_hial (o := l0) (show xm_Imp g Γ 741 (xi_ial 742) from xs_ial hG hΓ dL_law_741) ha171 e1 ?_
      refine xw_aldo (x := l3) (show xm_Imp g Γ 742 (xi_ald 3 743) from xs_aload_n hΓ dL_law_742) rfl ?_
      obtain ⟨m173, m174, ⟨em1, em2⟩, e⟩ := e
      refine xw_tsi3 (show xm_Imp g Γ 743 (xi_inv g M_X0_run 16 3 746) from xs_invSW hG hΓ k_X0_run rfl q1907 q1908 dL_law_743) rfl em1 em2 (K_X0_run hG l1 v172 l3 _ _ _ e) (fun v176 h175 e => ?_)
      refine xw_ist (ls' := [some (va_rf l0), some (va_rf l1), some (va_rf l2), some (va_rf l3), some (va_rf l4), some (.int l5), some (.int v176), none, none]) (show xm_Imp g Γ 746 (xi_ist 6 748) from xs_istore hΓ dL_law_746 (Nat.le_of_ble_eq_true rfl)) rfl ?_
      refine xw_aldo (x := l2) (show xm_Imp g Γ 748 (xi_ald 2 749) from xs_aload_n hΓ dL_law_748) rfl ?_
      refine xw_aldo (x := l0) (show xm_Imp g Γ 749 (xi_ald 0 750) from xs_aload_n hΓ dL_law_749) rfl ?_
      refine xw_ild (show xm_Imp g Γ 750 (xi_ild 5 752) from xs_iload hΓ dL_law_750) rfl ?_
      refine xw_psh (v := (.int (1))) (show xm_Imp g Γ 752 (xi_psh (.int (1)) 753) from xs_iconst hΓ dL_law_752 (by decide)) ?_
      refine xw_ii (show xm_Imp g Γ 753 (xi_ii (fun x y => x + y) 754) from xs_iadd hΓ dL_law_753) ?_
      obtain ⟨v177, e1, e⟩ := e
      refine xw_hial (o := l0) (show xm_Imp g Γ 754 (xi_ial 755) from xs_ial hG hΓ dL_law_754) ha171 e1 ?_
      obtain ⟨a178, ha178, e⟩ := e
      obtain ⟨ad179, σ180, hMad179, hBad179, hhad179, e⟩ := e
      obtain ⟨v181, e1, e⟩ := e
      refine xw_hv1 (o := l2) (u := ()) (show xm_Imp g Γ 755 (xi_vir g 4 M_X5_run 11 1 758) from xs_invV hG hΓ k_X5_run rfl (ci := 4) rfl q3139 q3140 q3141 dL_law_755) (by simp [xm_stk, xv_cat, xc_int, xc_long, xc_float, xc_double, xc_ref]) ha178 (xM_is hhad179) (xM_run hhad179 (fun Q X hQ => K_X5_run hG hMad179 hBad179 v177 σ180 e1 hQ)) ?_
      refine xw_ist (ls' := [some (va_rf l0), some (va_rf l1), some (va_rf l2), some (va_rf l3), some (va_rf l4), some (.int l5), some (.int v176), some (.int v181.1), none]) (show xm_Imp g Γ 758 (xi_ist 7 760) from xs_istore hΓ dL_law_758 (Nat.le_of_ble_eq_true rfl)) rfl ?_
      refine xw_aldo (x := l2) (show xm_Imp g Γ 760 (xi_ald 2 761) from xs_aload_n hΓ dL_law_760) rfl ?_
      obtain ⟨ad182, σ183, hMad182, hBad182, hhad182, e⟩ := e
      obtain ⟨v184, e1, e⟩ := e
      refine xw_hv0 (o := l2) (u := ()) (show xm_Imp g Γ 761 (xi_vir g 4 M_X5_thrown 1 0 764) from xs_invV hG hΓ k_X5_thrown rfl (ci := 4) rfl q2978 q2979 q2980 dL_law_761) (by simp [xm_stk, xv_cat, xc_int, xc_long, xc_float, xc_double, xc_ref]) ha178 (xM_is hhad182) (xM_run0 hhad182 (fun Q X hQ => K_X5_thrown hG hMad182 hBad182 σ183 (Option.some.inj e1) hQ)) ?_
      refine xw_ild (show xm_Imp g Γ 764 (xi_ild 6 766) from xs_iload hΓ dL_law_764) rfl ?_
      refine xw_ic (show xm_Imp g Γ 766 (xi_ic (fun x y => x = y) 771 769) from xs_icmp_eq hΓ dL_law_766 (by decide)) (fun c => ?_) (fun c => ?_)
      · rw [if_pos c] at e
        refine xw_ild (show xm_Imp g Γ 771 (xi_ild 6 773) from xs_iload hΓ dL_law_771) rfl ?_
        refine xw_if (show xm_Imp g Γ 773 (xi_if (fun x => x = 0) 776 788) from xs_if_ne hΓ dL_law_773 (by decide)) (fun c => ?_) (fun c => ?_)
        · rw [if_pos c] at e
          refine xw_aldo (x := l3) (show xm_Imp g Γ 776 (xi_ald 3 777) from xs_aload_n hΓ dL_law_776) rfl ?_
          refine xw_psh (v := (.int (0))) (show xm_Imp g Γ 777 (xi_psh (.int (0)) 778) from xs_iconst hΓ dL_law_777 (by decide)) ?_
          obtain ⟨a185, ha185, e⟩ := e
          obtain ⟨v186, e1, e⟩ := e
          refine xw_hlal (o := l3) (show xm_Imp g Γ 778 (xi_lal 779) from xs_lal hG hΓ dL_law_778) ha185 e1 ?_
          refine xw_ild (show xm_Imp g Γ 779 (xi_ild 7 781) from xs_iload hΓ dL_law_779) rfl ?_
          refine xw_i2l (show xm_Imp g Γ 781 (xi_i2l 782) from xs_i2l hΓ dL_law_781) ?_
          refine xw_lcmp (show xm_Imp g Γ 782 (xi_lcmp 783) from xs_lcmp hΓ dL_law_782) ?_
          refine xw_if (show xm_Imp g Γ 783 (xi_if (fun x => x = 0) 788 786) from xs_if_eq hΓ dL_law_783 (by decide)) (fun c => ?_) (fun c => ?_)
          · rw [if_pos c] at e
            exact xm_lx (hB_788 _ _ _ _ e) (And.intro rfl (And.intro rfl (And.intro rfl (And.intro rfl (And.intro rfl (And.intro rfl (trivial)))))))
          · rw [if_neg c] at e
            refine xw_psh (v := (.int (0))) (show xm_Imp g Γ 786 (xi_psh (.int (0)) 787) from xs_iconst hΓ dL_law_786 (by decide)) ?_
            exact xw_iret (show xm_Imp g Γ 787 (xi_iret .boolean _) from xs_ireturn hΓ rfl dL_law_787) rfl ⟨_, rfl, e⟩
        · rw [if_neg c] at e
          exact xm_lx (hB_788 _ _ _ _ e) (And.intro rfl (And.intro rfl (And.intro rfl (And.intro rfl (And.intro rfl (And.intro rfl (trivial)))))))
      · rw [if_neg c] at e
        refine xw_psh (v := (.int (0))) (show xm_Imp g Γ 769 (xi_psh (.int (0)) 770) from xs_iconst hΓ dL_law_769 (by decide)) ?_
        exact xw_iret (show xm_Imp g Γ 770 (xi_iret .boolean _) from xs_ireturn hΓ rfl dL_law_770) rfl ⟨_, rfl, e⟩
    have hB_791 : ∀ (l5 : Int32) (h : xm_H) (bc : Nat) (bs : Nat), B_L_law_791 g l0 l1 l2 l3 l4 l5 h bc bs k28 Q → xm_W g Γ 791 [some (va_rf l0), some (va_rf l1), some (va_rf l2), some (va_rf l3), some (va_rf l4), some (.int l5), none, none, none] [] h bc bs := by
      intro l5 h bc bs e
      unfold B_L_law_791 at e
      refine xw_aldo (x := l1) (show xm_Imp g Γ 791 (xi_ald 1 792) from xs_aload_n hΓ dL_law_791) rfl ?_
      obtain ⟨a187, ha187, e⟩ := e
      obtain ⟨_, e0, e⟩ := e
      obtain ⟨m188, m189, ⟨em1, em2⟩, e⟩ := e
      refine xw_tvi0 (o := l1) (show xm_Imp g Γ 792 (xi_vir g 0 M_X1_runnable 15 0 795) from xs_invVW hG hΓ k_X1_runnable rfl (ci := 0) rfl q1594 q1595 q1596 dL_law_792) (by simp [xm_stk, xv_cat, xc_int, xc_long, xc_float, xc_double, xc_ref]) ha187 e0 em1 em2 (K_X1_runnable hG a187 _ _ _ e) (fun v191 h190 e => ?_)
      refine xw_aldo (x := l2) (show xm_Imp g Γ 795 (xi_ald 2 796) from xs_aload_n hΓ dL_law_795) rfl ?_
      obtain ⟨a192, ha192, e⟩ := e
      obtain ⟨ad193, σ194, hMad193, hBad193, hhad193, e⟩ := e
      obtain ⟨v195, e1, e⟩ := e
      refine xw_hv0 (o := l2) (u := ()) (show xm_Imp g Γ 796 (xi_vir g 4 M_X5_runnable 11 0 799) from xs_invV hG hΓ k_X5_runnable rfl (ci := 4) rfl q3148 q3149 q3150 dL_law_796) (by simp [xm_stk, xv_cat, xc_int, xc_long, xc_float, xc_double, xc_ref]) ha192 (xM_is hhad193) (xM_run hhad193 (fun Q X hQ => K_X5_runnable hG hMad193 hBad193 σ194 e1 hQ)) ?_
      refine xw_ic (show xm_Imp g Γ 799 (xi_ic (fun x y => x = y) 2924 802) from xs_icmp_eq hΓ dL_law_799 (by decide)) (fun c => ?_) (fun c => ?_)
      · rw [if_pos c] at e
        exact hB_2924 _ _ _ _ e
      · rw [if_neg c] at e
        refine xw_psh (v := (.int (0))) (show xm_Imp g Γ 802 (xi_psh (.int (0)) 803) from xs_iconst hΓ dL_law_802 (by decide)) ?_
        exact xw_iret (show xm_Imp g Γ 803 (xi_iret .boolean _) from xs_ireturn hΓ rfl dL_law_803) rfl ⟨_, rfl, e⟩
    have hB_857 : ∀ (l5 : Int32) (h : xm_H) (bc : Nat) (bs : Nat), B_L_law_857 g l0 l1 l2 l3 l4 l5 h bc bs k28 Q → xm_W g Γ 857 [some (va_rf l0), some (va_rf l1), some (va_rf l2), some (va_rf l3), some (va_rf l4), some (.int l5), none, none, none] [] h bc bs := by
      intro l5 h bc bs e
      unfold B_L_law_857 at e
      refine xw_goto (show xm_Imp g Γ 857 (xi_goto 2924) from xs_goto hΓ dL_law_857 (by decide)) ?_
      exact hB_2924 _ _ _ _ e
    have hB_804 : ∀ (l5 : Int32) (h : xm_H) (bc : Nat) (bs : Nat), B_L_law_804 g l0 l1 l2 l3 l4 l5 h bc bs k28 Q → xm_W g Γ 804 [some (va_rf l0), some (va_rf l1), some (va_rf l2), some (va_rf l3), some (va_rf l4), some (.int l5), none, none, none] [] h bc bs := by
      intro l5 h bc bs e
      unfold B_L_law_804 at e
      refine xw_aldo (x := l1) (show xm_Imp g Γ 804 (xi_ald 1 805) from xs_aload_n hΓ dL_law_804) rfl ?_
      refine xw_aldo (x := l0) (show xm_Imp g Γ 805 (xi_ald 0 806) from xs_aload_n hΓ dL_law_805) rfl ?_
      refine xw_ild (show xm_Imp g Γ 806 (xi_ild 5 808) from xs_iload hΓ dL_law_806) rfl ?_
      refine xw_psh (v := (.int (1))) (show xm_Imp g Γ 808 (xi_psh (.int (1)) 809) from xs_iconst hΓ dL_law_808 (by decide)) ?_
      refine xw_ii (show xm_Imp g Γ 809 (xi_ii (fun x y => x + y) 810) from xs_iadd hΓ dL_law_809) ?_
      obtain ⟨a196, ha196, e⟩ := e
      obtain ⟨v197, e1, e⟩ := e
      refine xw_hial (o := l0) (show xm_Imp g Γ 810 (xi_ial 811) from xs_ial hG hΓ dL_law_810) ha196 e1 ?_
      refine xw_aldo (x := l3) (show xm_Imp g Γ 811 (xi_ald 3 812) from xs_aload_n hΓ dL_law_811) rfl ?_
      obtain ⟨m198, m199, ⟨em1, em2⟩, e⟩ := e
      refine xw_tsi3 (show xm_Imp g Γ 812 (xi_inv g M_X0_reverse 14 3 815) from xs_invSW hG hΓ k_X0_reverse rfl q1914 q1915 dL_law_812) rfl em1 em2 (K_X0_reverse hG l1 v197 l3 _ _ _ e) (fun v201 h200 e => ?_)
      refine xw_ist (ls' := [some (va_rf l0), some (va_rf l1), some (va_rf l2), some (va_rf l3), some (va_rf l4), some (.int l5), some (.int v201), none, none]) (show xm_Imp g Γ 815 (xi_ist 6 817) from xs_istore hΓ dL_law_815 (Nat.le_of_ble_eq_true rfl)) rfl ?_
      refine xw_aldo (x := l2) (show xm_Imp g Γ 817 (xi_ald 2 818) from xs_aload_n hΓ dL_law_817) rfl ?_
      refine xw_aldo (x := l0) (show xm_Imp g Γ 818 (xi_ald 0 819) from xs_aload_n hΓ dL_law_818) rfl ?_
      refine xw_ild (show xm_Imp g Γ 819 (xi_ild 5 821) from xs_iload hΓ dL_law_819) rfl ?_
      refine xw_psh (v := (.int (1))) (show xm_Imp g Γ 821 (xi_psh (.int (1)) 822) from xs_iconst hΓ dL_law_821 (by decide)) ?_
      refine xw_ii (show xm_Imp g Γ 822 (xi_ii (fun x y => x + y) 823) from xs_iadd hΓ dL_law_822) ?_
      obtain ⟨v202, e1, e⟩ := e
      refine xw_hial (o := l0) (show xm_Imp g Γ 823 (xi_ial 824) from xs_ial hG hΓ dL_law_823) ha196 e1 ?_
      obtain ⟨a203, ha203, e⟩ := e
      obtain ⟨ad204, σ205, hMad204, hBad204, hhad204, e⟩ := e
      obtain ⟨v206, e1, e⟩ := e
      refine xw_hv1 (o := l2) (u := ()) (show xm_Imp g Γ 824 (xi_vir g 4 M_X5_reverse 6 1 827) from xs_invV hG hΓ k_X5_reverse rfl (ci := 4) rfl q3060 q3061 q3062 dL_law_824) (by simp [xm_stk, xv_cat, xc_int, xc_long, xc_float, xc_double, xc_ref]) ha203 (xM_is hhad204) (xM_run hhad204 (fun Q X hQ => K_X5_reverse hG hMad204 hBad204 v202 σ205 e1 hQ)) ?_
      refine xw_ist (ls' := [some (va_rf l0), some (va_rf l1), some (va_rf l2), some (va_rf l3), some (va_rf l4), some (.int l5), some (.int v201), some (.int v206.1), none]) (show xm_Imp g Γ 827 (xi_ist 7 829) from xs_istore hΓ dL_law_827 (Nat.le_of_ble_eq_true rfl)) rfl ?_
      refine xw_aldo (x := l2) (show xm_Imp g Γ 829 (xi_ald 2 830) from xs_aload_n hΓ dL_law_829) rfl ?_
      obtain ⟨ad207, σ208, hMad207, hBad207, hhad207, e⟩ := e
      obtain ⟨v209, e1, e⟩ := e
      refine xw_hv0 (o := l2) (u := ()) (show xm_Imp g Γ 830 (xi_vir g 4 M_X5_thrown 1 0 833) from xs_invV hG hΓ k_X5_thrown rfl (ci := 4) rfl q2978 q2979 q2980 dL_law_830) (by simp [xm_stk, xv_cat, xc_int, xc_long, xc_float, xc_double, xc_ref]) ha203 (xM_is hhad207) (xM_run0 hhad207 (fun Q X hQ => K_X5_thrown hG hMad207 hBad207 σ208 (Option.some.inj e1) hQ)) ?_
      refine xw_ild (show xm_Imp g Γ 833 (xi_ild 6 835) from xs_iload hΓ dL_law_833) rfl ?_
      refine xw_ic (show xm_Imp g Γ 835 (xi_ic (fun x y => x = y) 840 838) from xs_icmp_eq hΓ dL_law_835 (by decide)) (fun c => ?_) (fun c => ?_)
      · rw [if_pos c] at e
        refine xw_ild (show xm_Imp g Γ 840 (xi_ild 6 842) from xs_iload hΓ dL_law_840) rfl ?_
        refine xw_if (show xm_Imp g Γ 842 (xi_if (fun x => x = 0) 845 857) from xs_if_ne hΓ dL_law_842 (by decide)) (fun c => ?_) (fun c => ?_)
        · rw [if_pos c] at e
          refine xw_aldo (x := l3) (show xm_Imp g Γ 845 (xi_ald 3 846) from xs_aload_n hΓ dL_law_845) rfl ?_
          refine xw_psh (v := (.int (0))) (show xm_Imp g Γ 846 (xi_psh (.int (0)) 847) from xs_iconst hΓ dL_law_846 (by decide)) ?_
          obtain ⟨a210, ha210, e⟩ := e
          obtain ⟨v211, e1, e⟩ := e
          refine xw_hlal (o := l3) (show xm_Imp g Γ 847 (xi_lal 848) from xs_lal hG hΓ dL_law_847) ha210 e1 ?_
          refine xw_ild (show xm_Imp g Γ 848 (xi_ild 7 850) from xs_iload hΓ dL_law_848) rfl ?_
          refine xw_i2l (show xm_Imp g Γ 850 (xi_i2l 851) from xs_i2l hΓ dL_law_850) ?_
          refine xw_lcmp (show xm_Imp g Γ 851 (xi_lcmp 852) from xs_lcmp hΓ dL_law_851) ?_
          refine xw_if (show xm_Imp g Γ 852 (xi_if (fun x => x = 0) 857 855) from xs_if_eq hΓ dL_law_852 (by decide)) (fun c => ?_) (fun c => ?_)
          · rw [if_pos c] at e
            exact xm_lx (hB_857 _ _ _ _ e) (And.intro rfl (And.intro rfl (And.intro rfl (And.intro rfl (And.intro rfl (And.intro rfl (trivial)))))))
          · rw [if_neg c] at e
            refine xw_psh (v := (.int (0))) (show xm_Imp g Γ 855 (xi_psh (.int (0)) 856) from xs_iconst hΓ dL_law_855 (by decide)) ?_
            exact xw_iret (show xm_Imp g Γ 856 (xi_iret .boolean _) from xs_ireturn hΓ rfl dL_law_856) rfl ⟨_, rfl, e⟩
        · rw [if_neg c] at e
          exact xm_lx (hB_857 _ _ _ _ e) (And.intro rfl (And.intro rfl (And.intro rfl (And.intro rfl (And.intro rfl (And.intro rfl (trivial)))))))
      · rw [if_neg c] at e
        refine xw_psh (v := (.int (0))) (show xm_Imp g Γ 838 (xi_psh (.int (0)) 839) from xs_iconst hΓ dL_law_838 (by decide)) ?_
        exact xw_iret (show xm_Imp g Γ 839 (xi_iret .boolean _) from xs_ireturn hΓ rfl dL_law_839) rfl ⟨_, rfl, e⟩
    have hB_860 : ∀ (l5 : Int32) (h : xm_H) (bc : Nat) (bs : Nat), B_L_law_860 g l0 l1 l2 l3 l4 l5 h bc bs k28 Q → xm_W g Γ 860 [some (va_rf l0), some (va_rf l1), some (va_rf l2), some (va_rf l3), some (va_rf l4), some (.int l5), none, none, none] [] h bc bs := by
      intro l5 h bc bs e
      unfold B_L_law_860 at e
      refine xw_aldo (x := l1) (show xm_Imp g Γ 860 (xi_ald 1 861) from xs_aload_n hΓ dL_law_860) rfl ?_
      obtain ⟨a212, ha212, e⟩ := e
      obtain ⟨_, e0, e⟩ := e
      obtain ⟨m213, m214, ⟨em1, em2⟩, e⟩ := e
      refine xw_tvi0 (o := l1) (show xm_Imp g Γ 861 (xi_vir g 0 M_X1_makeCanonical 14 0 864) from xs_invV hG hΓ k_X1_makeCanonical rfl (ci := 0) rfl q1598 q1599 q1600 dL_law_861) (by simp [xm_stk, xv_cat, xc_int, xc_long, xc_float, xc_double, xc_ref]) ha212 e0 em1 em2 (K_X1_makeCanonical hG a212 _ _ _ e) (fun v216 h215 e => ?_)
      refine xw_aldo (x := l2) (show xm_Imp g Γ 864 (xi_ald 2 865) from xs_aload_n hΓ dL_law_864) rfl ?_
      obtain ⟨a217, ha217, e⟩ := e
      obtain ⟨ad218, σ219, hMad218, hBad218, hhad218, e⟩ := e
      obtain ⟨v220, e1, e⟩ := e
      refine xw_hv0 (o := l2) (u := ()) (show xm_Imp g Γ 865 (xi_vir g 4 M_X5_makeCanonical 8 0 868) from xs_invV hG hΓ k_X5_makeCanonical rfl (ci := 4) rfl q3268 q3269 q3270 dL_law_865) (by simp [xm_stk, xv_cat, xc_int, xc_long, xc_float, xc_double, xc_ref]) ha217 (xM_is hhad218) (xM_run hhad218 (fun Q X hQ => K_X5_makeCanonical hG hMad218 hBad218 σ219 e1 hQ)) ?_
      refine xw_ic (show xm_Imp g Γ 868 (xi_ic (fun x y => x = y) 2924 871) from xs_icmp_eq hΓ dL_law_868 (by decide)) (fun c => ?_) (fun c => ?_)
      · rw [if_pos c] at e
        exact hB_2924 _ _ _ _ e
      · rw [if_neg c] at e
        refine xw_psh (v := (.int (0))) (show xm_Imp g Γ 871 (xi_psh (.int (0)) 872) from xs_iconst hΓ dL_law_871 (by decide)) ?_
        exact xw_iret (show xm_Imp g Γ 872 (xi_iret .boolean _) from xs_ireturn hΓ rfl dL_law_872) rfl ⟨_, rfl, e⟩
    have hB_926 : ∀ (l5 : Int32) (h : xm_H) (bc : Nat) (bs : Nat), B_L_law_926 g l0 l1 l2 l3 l4 l5 h bc bs k28 Q → xm_W g Γ 926 [some (va_rf l0), some (va_rf l1), some (va_rf l2), some (va_rf l3), some (va_rf l4), some (.int l5), none, none, none] [] h bc bs := by
      intro l5 h bc bs e
      unfold B_L_law_926 at e
      refine xw_goto (show xm_Imp g Γ 926 (xi_goto 2924) from xs_goto hΓ dL_law_926 (by decide)) ?_
      exact hB_2924 _ _ _ _ e
    have hB_873 : ∀ (l5 : Int32) (h : xm_H) (bc : Nat) (bs : Nat), B_L_law_873 g l0 l1 l2 l3 l4 l5 h bc bs k28 Q → xm_W g Γ 873 [some (va_rf l0), some (va_rf l1), some (va_rf l2), some (va_rf l3), some (va_rf l4), some (.int l5), none, none, none] [] h bc bs := by
      intro l5 h bc bs e
      unfold B_L_law_873 at e
      refine xw_aldo (x := l1) (show xm_Imp g Γ 873 (xi_ald 1 874) from xs_aload_n hΓ dL_law_873) rfl ?_
      refine xw_aldo (x := l0) (show xm_Imp g Γ 874 (xi_ald 0 875) from xs_aload_n hΓ dL_law_874) rfl ?_
      refine xw_ild (show xm_Imp g Γ 875 (xi_ild 5 877) from xs_iload hΓ dL_law_875) rfl ?_
      refine xw_psh (v := (.int (1))) (show xm_Imp g Γ 877 (xi_psh (.int (1)) 878) from xs_iconst hΓ dL_law_877 (by decide)) ?_
      refine xw_ii (show xm_Imp g Γ 878 (xi_ii (fun x y => x + y) 879) from xs_iadd hΓ dL_law_878) ?_
      obtain ⟨a221, ha221, e⟩ := e
      obtain ⟨v222, e1, e⟩ := e
      refine xw_hial (o := l0) (show xm_Imp g Γ 879 (xi_ial 880) from xs_ial hG hΓ dL_law_879) ha221 e1 ?_
      refine xw_aldo (x := l3) (show xm_Imp g Γ 880 (xi_ald 3 881) from xs_aload_n hΓ dL_law_880) rfl ?_
      obtain ⟨m223, m224, ⟨em1, em2⟩, e⟩ := e
      refine xw_tsi3 (show xm_Imp g Γ 881 (xi_inv g M_X0_goBack 15 3 884) from xs_invSW hG hΓ k_X0_goBack rfl q1937 q1938 dL_law_881) rfl em1 em2 (K_X0_goBack hG l1 v222 l3 _ _ _ e) (fun v226 h225 e => ?_)
      refine xw_ist (ls' := [some (va_rf l0), some (va_rf l1), some (va_rf l2), some (va_rf l3), some (va_rf l4), some (.int l5), some (.int v226), none, none]) (show xm_Imp g Γ 884 (xi_ist 6 886) from xs_istore hΓ dL_law_884 (Nat.le_of_ble_eq_true rfl)) rfl ?_
      refine xw_aldo (x := l2) (show xm_Imp g Γ 886 (xi_ald 2 887) from xs_aload_n hΓ dL_law_886) rfl ?_
      refine xw_aldo (x := l0) (show xm_Imp g Γ 887 (xi_ald 0 888) from xs_aload_n hΓ dL_law_887) rfl ?_
      refine xw_ild (show xm_Imp g Γ 888 (xi_ild 5 890) from xs_iload hΓ dL_law_888) rfl ?_
      refine xw_psh (v := (.int (1))) (show xm_Imp g Γ 890 (xi_psh (.int (1)) 891) from xs_iconst hΓ dL_law_890 (by decide)) ?_
      refine xw_ii (show xm_Imp g Γ 891 (xi_ii (fun x y => x + y) 892) from xs_iadd hΓ dL_law_891) ?_
      obtain ⟨v227, e1, e⟩ := e
      refine xw_hial (o := l0) (show xm_Imp g Γ 892 (xi_ial 893) from xs_ial hG hΓ dL_law_892) ha221 e1 ?_
      obtain ⟨a228, ha228, e⟩ := e
      obtain ⟨ad229, σ230, hMad229, hBad229, hhad229, e⟩ := e
      obtain ⟨v231, e1, e⟩ := e
      refine xw_hv1 (o := l2) (u := ()) (show xm_Imp g Γ 893 (xi_vir g 4 M_X5_goBack 4 1 896) from xs_invV hG hΓ k_X5_goBack rfl (ci := 4) rfl q3448 q3449 q3450 dL_law_893) (by simp [xm_stk, xv_cat, xc_int, xc_long, xc_float, xc_double, xc_ref]) ha228 (xM_is hhad229) (xM_run hhad229 (fun Q X hQ => K_X5_goBack hG hMad229 hBad229 v227 σ230 e1 hQ)) ?_
      refine xw_ist (ls' := [some (va_rf l0), some (va_rf l1), some (va_rf l2), some (va_rf l3), some (va_rf l4), some (.int l5), some (.int v226), some (.int v231.1), none]) (show xm_Imp g Γ 896 (xi_ist 7 898) from xs_istore hΓ dL_law_896 (Nat.le_of_ble_eq_true rfl)) rfl ?_
      refine xw_aldo (x := l2) (show xm_Imp g Γ 898 (xi_ald 2 899) from xs_aload_n hΓ dL_law_898) rfl ?_
      obtain ⟨ad232, σ233, hMad232, hBad232, hhad232, e⟩ := e
      obtain ⟨v234, e1, e⟩ := e
      refine xw_hv0 (o := l2) (u := ()) (show xm_Imp g Γ 899 (xi_vir g 4 M_X5_thrown 1 0 902) from xs_invV hG hΓ k_X5_thrown rfl (ci := 4) rfl q2978 q2979 q2980 dL_law_899) (by simp [xm_stk, xv_cat, xc_int, xc_long, xc_float, xc_double, xc_ref]) ha228 (xM_is hhad232) (xM_run0 hhad232 (fun Q X hQ => K_X5_thrown hG hMad232 hBad232 σ233 (Option.some.inj e1) hQ)) ?_
      refine xw_ild (show xm_Imp g Γ 902 (xi_ild 6 904) from xs_iload hΓ dL_law_902) rfl ?_
      refine xw_ic (show xm_Imp g Γ 904 (xi_ic (fun x y => x = y) 909 907) from xs_icmp_eq hΓ dL_law_904 (by decide)) (fun c => ?_) (fun c => ?_)
      · rw [if_pos c] at e
        refine xw_ild (show xm_Imp g Γ 909 (xi_ild 6 911) from xs_iload hΓ dL_law_909) rfl ?_
        refine xw_if (show xm_Imp g Γ 911 (xi_if (fun x => x = 0) 914 926) from xs_if_ne hΓ dL_law_911 (by decide)) (fun c => ?_) (fun c => ?_)
        · rw [if_pos c] at e
          refine xw_aldo (x := l3) (show xm_Imp g Γ 914 (xi_ald 3 915) from xs_aload_n hΓ dL_law_914) rfl ?_
          refine xw_psh (v := (.int (0))) (show xm_Imp g Γ 915 (xi_psh (.int (0)) 916) from xs_iconst hΓ dL_law_915 (by decide)) ?_
          obtain ⟨a235, ha235, e⟩ := e
          obtain ⟨v236, e1, e⟩ := e
          refine xw_hlal (o := l3) (show xm_Imp g Γ 916 (xi_lal 917) from xs_lal hG hΓ dL_law_916) ha235 e1 ?_
          refine xw_ild (show xm_Imp g Γ 917 (xi_ild 7 919) from xs_iload hΓ dL_law_917) rfl ?_
          refine xw_i2l (show xm_Imp g Γ 919 (xi_i2l 920) from xs_i2l hΓ dL_law_919) ?_
          refine xw_lcmp (show xm_Imp g Γ 920 (xi_lcmp 921) from xs_lcmp hΓ dL_law_920) ?_
          refine xw_if (show xm_Imp g Γ 921 (xi_if (fun x => x = 0) 926 924) from xs_if_eq hΓ dL_law_921 (by decide)) (fun c => ?_) (fun c => ?_)
          · rw [if_pos c] at e
            exact xm_lx (hB_926 _ _ _ _ e) (And.intro rfl (And.intro rfl (And.intro rfl (And.intro rfl (And.intro rfl (And.intro rfl (trivial)))))))
          · rw [if_neg c] at e
            refine xw_psh (v := (.int (0))) (show xm_Imp g Γ 924 (xi_psh (.int (0)) 925) from xs_iconst hΓ dL_law_924 (by decide)) ?_
            exact xw_iret (show xm_Imp g Γ 925 (xi_iret .boolean _) from xs_ireturn hΓ rfl dL_law_925) rfl ⟨_, rfl, e⟩
        · rw [if_neg c] at e
          exact xm_lx (hB_926 _ _ _ _ e) (And.intro rfl (And.intro rfl (And.intro rfl (And.intro rfl (And.intro rfl (And.intro rfl (trivial)))))))
      · rw [if_neg c] at e
        refine xw_psh (v := (.int (0))) (show xm_Imp g Γ 907 (xi_psh (.int (0)) 908) from xs_iconst hΓ dL_law_907 (by decide)) ?_
        exact xw_iret (show xm_Imp g Γ 908 (xi_iret .boolean _) from xs_ireturn hΓ rfl dL_law_908) rfl ⟨_, rfl, e⟩
    have hB_970 : ∀ (l5 : Int32) (h : xm_H) (bc : Nat) (bs : Nat), B_L_law_970 g l0 l1 l2 l3 l4 l5 h bc bs k28 Q → xm_W g Γ 970 [some (va_rf l0), some (va_rf l1), some (va_rf l2), some (va_rf l3), some (va_rf l4), some (.int l5), none, none, none] [] h bc bs := by
      intro l5 h bc bs e
      unfold B_L_law_970 at e
      refine xw_goto (show xm_Imp g Γ 970 (xi_goto 2924) from xs_goto hΓ dL_law_970 (by decide)) ?_
      exact hB_2924 _ _ _ _ e
    have hB_929 : ∀ (l5 : Int32) (h : xm_H) (bc : Nat) (bs : Nat), B_L_law_929 g l0 l1 l2 l3 l4 l5 h bc bs k28 Q → xm_W g Γ 929 [some (va_rf l0), some (va_rf l1), some (va_rf l2), some (va_rf l3), some (va_rf l4), some (.int l5), none, none, none] [] h bc bs := by
      intro l5 h bc bs e
      unfold B_L_law_929 at e
      refine xw_aldo (x := l1) (show xm_Imp g Γ 929 (xi_ald 1 930) from xs_aload_n hΓ dL_law_929) rfl ?_
      refine xw_aldo (x := l3) (show xm_Imp g Γ 930 (xi_ald 3 931) from xs_aload_n hΓ dL_law_930) rfl ?_
      obtain ⟨m237, m238, ⟨em1, em2⟩, e⟩ := e
      refine xw_tsi2 (show xm_Imp g Γ 931 (xi_inv g M_X0_undo 10 2 934) from xs_invSW hG hΓ k_X0_undo rfl q1949 q1950 dL_law_931) rfl em1 em2 (K_X0_undo hG l1 l3 _ _ _ e) (fun v240 h239 e => ?_)
      refine xw_ist (ls' := [some (va_rf l0), some (va_rf l1), some (va_rf l2), some (va_rf l3), some (va_rf l4), some (.int l5), some (.int v240), none, none]) (show xm_Imp g Γ 934 (xi_ist 6 936) from xs_istore hΓ dL_law_934 (Nat.le_of_ble_eq_true rfl)) rfl ?_
      refine xw_aldo (x := l2) (show xm_Imp g Γ 936 (xi_ald 2 937) from xs_aload_n hΓ dL_law_936) rfl ?_
      obtain ⟨a241, ha241, e⟩ := e
      obtain ⟨ad242, σ243, hMad242, hBad242, hhad242, e⟩ := e
      obtain ⟨v244, e1, e⟩ := e
      refine xw_hv0 (o := l2) (u := ()) (show xm_Imp g Γ 937 (xi_vir g 4 M_X5_undo 2 0 940) from xs_invV hG hΓ k_X5_undo rfl (ci := 4) rfl q2982 q2983 q2984 dL_law_937) (by simp [xm_stk, xv_cat, xc_int, xc_long, xc_float, xc_double, xc_ref]) ha241 (xM_is hhad242) (xM_run hhad242 (fun Q X hQ => K_X5_undo hG hMad242 hBad242 σ243 e1 hQ)) ?_
      refine xw_ist (ls' := [some (va_rf l0), some (va_rf l1), some (va_rf l2), some (va_rf l3), some (va_rf l4), some (.int l5), some (.int v240), some (.int v244.1), none]) (show xm_Imp g Γ 940 (xi_ist 7 942) from xs_istore hΓ dL_law_940 (Nat.le_of_ble_eq_true rfl)) rfl ?_
      refine xw_aldo (x := l2) (show xm_Imp g Γ 942 (xi_ald 2 943) from xs_aload_n hΓ dL_law_942) rfl ?_
      obtain ⟨ad245, σ246, hMad245, hBad245, hhad245, e⟩ := e
      obtain ⟨v247, e1, e⟩ := e
      refine xw_hv0 (o := l2) (u := ()) (show xm_Imp g Γ 943 (xi_vir g 4 M_X5_thrown 1 0 946) from xs_invV hG hΓ k_X5_thrown rfl (ci := 4) rfl q2978 q2979 q2980 dL_law_943) (by simp [xm_stk, xv_cat, xc_int, xc_long, xc_float, xc_double, xc_ref]) ha241 (xM_is hhad245) (xM_run0 hhad245 (fun Q X hQ => K_X5_thrown hG hMad245 hBad245 σ246 (Option.some.inj e1) hQ)) ?_
      refine xw_ild (show xm_Imp g Γ 946 (xi_ild 6 948) from xs_iload hΓ dL_law_946) rfl ?_
      refine xw_ic (show xm_Imp g Γ 948 (xi_ic (fun x y => x = y) 953 951) from xs_icmp_eq hΓ dL_law_948 (by decide)) (fun c => ?_) (fun c => ?_)
      · rw [if_pos c] at e
        refine xw_ild (show xm_Imp g Γ 953 (xi_ild 6 955) from xs_iload hΓ dL_law_953) rfl ?_
        refine xw_if (show xm_Imp g Γ 955 (xi_if (fun x => x = 0) 958 970) from xs_if_ne hΓ dL_law_955 (by decide)) (fun c => ?_) (fun c => ?_)
        · rw [if_pos c] at e
          refine xw_aldo (x := l3) (show xm_Imp g Γ 958 (xi_ald 3 959) from xs_aload_n hΓ dL_law_958) rfl ?_
          refine xw_psh (v := (.int (0))) (show xm_Imp g Γ 959 (xi_psh (.int (0)) 960) from xs_iconst hΓ dL_law_959 (by decide)) ?_
          obtain ⟨a248, ha248, e⟩ := e
          obtain ⟨v249, e1, e⟩ := e
          refine xw_hlal (o := l3) (show xm_Imp g Γ 960 (xi_lal 961) from xs_lal hG hΓ dL_law_960) ha248 e1 ?_
          refine xw_ild (show xm_Imp g Γ 961 (xi_ild 7 963) from xs_iload hΓ dL_law_961) rfl ?_
          refine xw_i2l (show xm_Imp g Γ 963 (xi_i2l 964) from xs_i2l hΓ dL_law_963) ?_
          refine xw_lcmp (show xm_Imp g Γ 964 (xi_lcmp 965) from xs_lcmp hΓ dL_law_964) ?_
          refine xw_if (show xm_Imp g Γ 965 (xi_if (fun x => x = 0) 970 968) from xs_if_eq hΓ dL_law_965 (by decide)) (fun c => ?_) (fun c => ?_)
          · rw [if_pos c] at e
            exact xm_lx (hB_970 _ _ _ _ e) (And.intro rfl (And.intro rfl (And.intro rfl (And.intro rfl (And.intro rfl (And.intro rfl (trivial)))))))
          · rw [if_neg c] at e
            refine xw_psh (v := (.int (0))) (show xm_Imp g Γ 968 (xi_psh (.int (0)) 969) from xs_iconst hΓ dL_law_968 (by decide)) ?_
            exact xw_iret (show xm_Imp g Γ 969 (xi_iret .boolean _) from xs_ireturn hΓ rfl dL_law_969) rfl ⟨_, rfl, e⟩
        · rw [if_neg c] at e
          exact xm_lx (hB_970 _ _ _ _ e) (And.intro rfl (And.intro rfl (And.intro rfl (And.intro rfl (And.intro rfl (And.intro rfl (trivial)))))))
      · rw [if_neg c] at e
        refine xw_psh (v := (.int (0))) (show xm_Imp g Γ 951 (xi_psh (.int (0)) 952) from xs_iconst hΓ dL_law_951 (by decide)) ?_
        exact xw_iret (show xm_Imp g Γ 952 (xi_iret .boolean _) from xs_ireturn hΓ rfl dL_law_952) rfl ⟨_, rfl, e⟩
    have hB_1038 : ∀ (l5 : Int32) (h : xm_H) (bc : Nat) (bs : Nat), B_L_law_1038 g l0 l1 l2 l3 l4 l5 h bc bs k28 Q → xm_W g Γ 1038 [some (va_rf l0), some (va_rf l1), some (va_rf l2), some (va_rf l3), some (va_rf l4), some (.int l5), none, none, none] [] h bc bs := by
      intro l5 h bc bs e
      unfold B_L_law_1038 at e
      refine xw_goto (show xm_Imp g Γ 1038 (xi_goto 2924) from xs_goto hΓ dL_law_1038 (by decide)) ?_
      exact hB_2924 _ _ _ _ e
    have hB_973 : ∀ (l5 : Int32) (h : xm_H) (bc : Nat) (bs : Nat), B_L_law_973 g l0 l1 l2 l3 l4 l5 h bc bs k28 Q → xm_W g Γ 973 [some (va_rf l0), some (va_rf l1), some (va_rf l2), some (va_rf l3), some (va_rf l4), some (.int l5), none, none, none] [] h bc bs := by
      intro l5 h bc bs e
      unfold B_L_law_973 at e
      refine xw_aldo (x := l1) (show xm_Imp g Γ 973 (xi_ald 1 974) from xs_aload_n hΓ dL_law_973) rfl ?_
      refine xw_aldo (x := l0) (show xm_Imp g Γ 974 (xi_ald 0 975) from xs_aload_n hΓ dL_law_974) rfl ?_
      refine xw_ild (show xm_Imp g Γ 975 (xi_ild 5 977) from xs_iload hΓ dL_law_975) rfl ?_
      refine xw_psh (v := (.int (1))) (show xm_Imp g Γ 977 (xi_psh (.int (1)) 978) from xs_iconst hΓ dL_law_977 (by decide)) ?_
      refine xw_ii (show xm_Imp g Γ 978 (xi_ii (fun x y => x + y) 979) from xs_iadd hΓ dL_law_978) ?_
      obtain ⟨a250, ha250, e⟩ := e
      obtain ⟨v251, e1, e⟩ := e
      refine xw_hial (o := l0) (show xm_Imp g Γ 979 (xi_ial 980) from xs_ial hG hΓ dL_law_979) ha250 e1 ?_
      refine xw_aldo (x := l0) (show xm_Imp g Γ 980 (xi_ald 0 981) from xs_aload_n hΓ dL_law_980) rfl ?_
      refine xw_ild (show xm_Imp g Γ 981 (xi_ild 5 983) from xs_iload hΓ dL_law_981) rfl ?_
      refine xw_psh (v := (.int (2))) (show xm_Imp g Γ 983 (xi_psh (.int (2)) 984) from xs_iconst hΓ dL_law_983 (by decide)) ?_
      refine xw_ii (show xm_Imp g Γ 984 (xi_ii (fun x y => x + y) 985) from xs_iadd hΓ dL_law_984) ?_
      obtain ⟨v252, e1, e⟩ := e
      refine xw_hial (o := l0) (show xm_Imp g Γ 985 (xi_ial 986) from xs_ial hG hΓ dL_law_985) ha250 e1 ?_
      refine xw_aldo (x := l3) (show xm_Imp g Γ 986 (xi_ald 3 987) from xs_aload_n hΓ dL_law_986) rfl ?_
      obtain ⟨m253, m254, ⟨em1, em2⟩, e⟩ := e
      refine xw_tsi4 (show xm_Imp g Γ 987 (xi_inv g M_X0_letter 11 4 990) from xs_invSW hG hΓ k_X0_letter rfl q1960 q1961 dL_law_987) rfl em1 em2 (K_X0_letter hG l1 v251 v252 l3 _ _ _ e) (fun v256 h255 e => ?_)
      refine xw_ist (ls' := [some (va_rf l0), some (va_rf l1), some (va_rf l2), some (va_rf l3), some (va_rf l4), some (.int l5), some (.int v256), none, none]) (show xm_Imp g Γ 990 (xi_ist 6 992) from xs_istore hΓ dL_law_990 (Nat.le_of_ble_eq_true rfl)) rfl ?_
      refine xw_aldo (x := l2) (show xm_Imp g Γ 992 (xi_ald 2 993) from xs_aload_n hΓ dL_law_992) rfl ?_
      refine xw_aldo (x := l0) (show xm_Imp g Γ 993 (xi_ald 0 994) from xs_aload_n hΓ dL_law_993) rfl ?_
      refine xw_ild (show xm_Imp g Γ 994 (xi_ild 5 996) from xs_iload hΓ dL_law_994) rfl ?_
      refine xw_psh (v := (.int (1))) (show xm_Imp g Γ 996 (xi_psh (.int (1)) 997) from xs_iconst hΓ dL_law_996 (by decide)) ?_
      refine xw_ii (show xm_Imp g Γ 997 (xi_ii (fun x y => x + y) 998) from xs_iadd hΓ dL_law_997) ?_
      obtain ⟨v257, e1, e⟩ := e
      refine xw_hial (o := l0) (show xm_Imp g Γ 998 (xi_ial 999) from xs_ial hG hΓ dL_law_998) ha250 e1 ?_
      refine xw_aldo (x := l0) (show xm_Imp g Γ 999 (xi_ald 0 1000) from xs_aload_n hΓ dL_law_999) rfl ?_
      refine xw_ild (show xm_Imp g Γ 1000 (xi_ild 5 1002) from xs_iload hΓ dL_law_1000) rfl ?_
      refine xw_psh (v := (.int (2))) (show xm_Imp g Γ 1002 (xi_psh (.int (2)) 1003) from xs_iconst hΓ dL_law_1002 (by decide)) ?_
      refine xw_ii (show xm_Imp g Γ 1003 (xi_ii (fun x y => x + y) 1004) from xs_iadd hΓ dL_law_1003) ?_
      obtain ⟨v258, e1, e⟩ := e
      refine xw_hial (o := l0) (show xm_Imp g Γ 1004 (xi_ial 1005) from xs_ial hG hΓ dL_law_1004) ha250 e1 ?_
      obtain ⟨a259, ha259, e⟩ := e
      obtain ⟨ad260, σ261, hMad260, hBad260, hhad260, e⟩ := e
      obtain ⟨v262, e1, e⟩ := e
      refine xw_hv2 (o := l2) (u := ()) (show xm_Imp g Γ 1005 (xi_vir g 4 M_X5_letter 3 2 1008) from xs_invV hG hΓ k_X5_letter rfl (ci := 4) rfl q3297 q3298 q3299 dL_law_1005) (by simp [xm_stk, xv_cat, xc_int, xc_long, xc_float, xc_double, xc_ref]) ha259 (xM_is hhad260) (xM_run hhad260 (fun Q X hQ => K_X5_letter hG hMad260 hBad260 v257 v258 σ261 e1 hQ)) ?_
      refine xw_ist (ls' := [some (va_rf l0), some (va_rf l1), some (va_rf l2), some (va_rf l3), some (va_rf l4), some (.int l5), some (.int v256), some (.int v262.1), none]) (show xm_Imp g Γ 1008 (xi_ist 7 1010) from xs_istore hΓ dL_law_1008 (Nat.le_of_ble_eq_true rfl)) rfl ?_
      refine xw_aldo (x := l2) (show xm_Imp g Γ 1010 (xi_ald 2 1011) from xs_aload_n hΓ dL_law_1010) rfl ?_
      obtain ⟨ad263, σ264, hMad263, hBad263, hhad263, e⟩ := e
      obtain ⟨v265, e1, e⟩ := e
      refine xw_hv0 (o := l2) (u := ()) (show xm_Imp g Γ 1011 (xi_vir g 4 M_X5_thrown 1 0 1014) from xs_invV hG hΓ k_X5_thrown rfl (ci := 4) rfl q2978 q2979 q2980 dL_law_1011) (by simp [xm_stk, xv_cat, xc_int, xc_long, xc_float, xc_double, xc_ref]) ha259 (xM_is hhad263) (xM_run0 hhad263 (fun Q X hQ => K_X5_thrown hG hMad263 hBad263 σ264 (Option.some.inj e1) hQ)) ?_
      refine xw_ild (show xm_Imp g Γ 1014 (xi_ild 6 1016) from xs_iload hΓ dL_law_1014) rfl ?_
      refine xw_ic (show xm_Imp g Γ 1016 (xi_ic (fun x y => x = y) 1021 1019) from xs_icmp_eq hΓ dL_law_1016 (by decide)) (fun c => ?_) (fun c => ?_)
      · rw [if_pos c] at e
        refine xw_ild (show xm_Imp g Γ 1021 (xi_ild 6 1023) from xs_iload hΓ dL_law_1021) rfl ?_
        refine xw_if (show xm_Imp g Γ 1023 (xi_if (fun x => x = 0) 1026 1038) from xs_if_ne hΓ dL_law_1023 (by decide)) (fun c => ?_) (fun c => ?_)
        · rw [if_pos c] at e
          refine xw_aldo (x := l3) (show xm_Imp g Γ 1026 (xi_ald 3 1027) from xs_aload_n hΓ dL_law_1026) rfl ?_
          refine xw_psh (v := (.int (0))) (show xm_Imp g Γ 1027 (xi_psh (.int (0)) 1028) from xs_iconst hΓ dL_law_1027 (by decide)) ?_
          obtain ⟨a266, ha266, e⟩ := e
          obtain ⟨v267, e1, e⟩ := e
          refine xw_hlal (o := l3) (show xm_Imp g Γ 1028 (xi_lal 1029) from xs_lal hG hΓ dL_law_1028) ha266 e1 ?_
          refine xw_ild (show xm_Imp g Γ 1029 (xi_ild 7 1031) from xs_iload hΓ dL_law_1029) rfl ?_
          refine xw_i2l (show xm_Imp g Γ 1031 (xi_i2l 1032) from xs_i2l hΓ dL_law_1031) ?_
          refine xw_lcmp (show xm_Imp g Γ 1032 (xi_lcmp 1033) from xs_lcmp hΓ dL_law_1032) ?_
          refine xw_if (show xm_Imp g Γ 1033 (xi_if (fun x => x = 0) 1038 1036) from xs_if_eq hΓ dL_law_1033 (by decide)) (fun c => ?_) (fun c => ?_)
          · rw [if_pos c] at e
            exact xm_lx (hB_1038 _ _ _ _ e) (And.intro rfl (And.intro rfl (And.intro rfl (And.intro rfl (And.intro rfl (And.intro rfl (trivial)))))))
          · rw [if_neg c] at e
            refine xw_psh (v := (.int (0))) (show xm_Imp g Γ 1036 (xi_psh (.int (0)) 1037) from xs_iconst hΓ dL_law_1036 (by decide)) ?_
            exact xw_iret (show xm_Imp g Γ 1037 (xi_iret .boolean _) from xs_ireturn hΓ rfl dL_law_1037) rfl ⟨_, rfl, e⟩
        · rw [if_neg c] at e
          exact xm_lx (hB_1038 _ _ _ _ e) (And.intro rfl (And.intro rfl (And.intro rfl (And.intro rfl (And.intro rfl (And.intro rfl (trivial)))))))
      · rw [if_neg c] at e
        refine xw_psh (v := (.int (0))) (show xm_Imp g Γ 1019 (xi_psh (.int (0)) 1020) from xs_iconst hΓ dL_law_1019 (by decide)) ?_
        exact xw_iret (show xm_Imp g Γ 1020 (xi_iret .boolean _) from xs_ireturn hΓ rfl dL_law_1020) rfl ⟨_, rfl, e⟩
    have hB_1106 : ∀ (l5 : Int32) (h : xm_H) (bc : Nat) (bs : Nat), B_L_law_1106 g l0 l1 l2 l3 l4 l5 h bc bs k28 Q → xm_W g Γ 1106 [some (va_rf l0), some (va_rf l1), some (va_rf l2), some (va_rf l3), some (va_rf l4), some (.int l5), none, none, none] [] h bc bs := by
      intro l5 h bc bs e
      unfold B_L_law_1106 at e
      refine xw_goto (show xm_Imp g Γ 1106 (xi_goto 2924) from xs_goto hΓ dL_law_1106 (by decide)) ?_
      exact hB_2924 _ _ _ _ e
    have hB_1041 : ∀ (l5 : Int32) (h : xm_H) (bc : Nat) (bs : Nat), B_L_law_1041 g l0 l1 l2 l3 l4 l5 h bc bs k28 Q → xm_W g Γ 1041 [some (va_rf l0), some (va_rf l1), some (va_rf l2), some (va_rf l3), some (va_rf l4), some (.int l5), none, none, none] [] h bc bs := by
      intro l5 h bc bs e
      unfold B_L_law_1041 at e
      refine xw_aldo (x := l1) (show xm_Imp g Γ 1041 (xi_ald 1 1042) from xs_aload_n hΓ dL_law_1041) rfl ?_
      refine xw_aldo (x := l0) (show xm_Imp g Γ 1042 (xi_ald 0 1043) from xs_aload_n hΓ dL_law_1042) rfl ?_
      refine xw_ild (show xm_Imp g Γ 1043 (xi_ild 5 1045) from xs_iload hΓ dL_law_1043) rfl ?_
      refine xw_psh (v := (.int (1))) (show xm_Imp g Γ 1045 (xi_psh (.int (1)) 1046) from xs_iconst hΓ dL_law_1045 (by decide)) ?_
      refine xw_ii (show xm_Imp g Γ 1046 (xi_ii (fun x y => x + y) 1047) from xs_iadd hΓ dL_law_1046) ?_
      obtain ⟨a268, ha268, e⟩ := e
      obtain ⟨v269, e1, e⟩ := e
      refine xw_hial (o := l0) (show xm_Imp g Γ 1047 (xi_ial 1048) from xs_ial hG hΓ dL_law_1047) ha268 e1 ?_
      refine xw_aldo (x := l0) (show xm_Imp g Γ 1048 (xi_ald 0 1049) from xs_aload_n hΓ dL_law_1048) rfl ?_
      refine xw_ild (show xm_Imp g Γ 1049 (xi_ild 5 1051) from xs_iload hΓ dL_law_1049) rfl ?_
      refine xw_psh (v := (.int (2))) (show xm_Imp g Γ 1051 (xi_psh (.int (2)) 1052) from xs_iconst hΓ dL_law_1051 (by decide)) ?_
      refine xw_ii (show xm_Imp g Γ 1052 (xi_ii (fun x y => x + y) 1053) from xs_iadd hΓ dL_law_1052) ?_
      obtain ⟨v270, e1, e⟩ := e
      refine xw_hial (o := l0) (show xm_Imp g Γ 1053 (xi_ial 1054) from xs_ial hG hΓ dL_law_1053) ha268 e1 ?_
      refine xw_aldo (x := l3) (show xm_Imp g Γ 1054 (xi_ald 3 1055) from xs_aload_n hΓ dL_law_1054) rfl ?_
      obtain ⟨m271, m272, ⟨em1, em2⟩, e⟩ := e
      refine xw_tsi4 (show xm_Imp g Γ 1055 (xi_inv g M_X0_row 12 4 1058) from xs_invSW hG hΓ k_X0_row rfl q1967 q1968 dL_law_1055) rfl em1 em2 (K_X0_row hG l1 v269 v270 l3 _ _ _ e) (fun v274 h273 e => ?_)
      refine xw_ist (ls' := [some (va_rf l0), some (va_rf l1), some (va_rf l2), some (va_rf l3), some (va_rf l4), some (.int l5), some (.int v274), none, none]) (show xm_Imp g Γ 1058 (xi_ist 6 1060) from xs_istore hΓ dL_law_1058 (Nat.le_of_ble_eq_true rfl)) rfl ?_
      refine xw_aldo (x := l2) (show xm_Imp g Γ 1060 (xi_ald 2 1061) from xs_aload_n hΓ dL_law_1060) rfl ?_
      refine xw_aldo (x := l0) (show xm_Imp g Γ 1061 (xi_ald 0 1062) from xs_aload_n hΓ dL_law_1061) rfl ?_
      refine xw_ild (show xm_Imp g Γ 1062 (xi_ild 5 1064) from xs_iload hΓ dL_law_1062) rfl ?_
      refine xw_psh (v := (.int (1))) (show xm_Imp g Γ 1064 (xi_psh (.int (1)) 1065) from xs_iconst hΓ dL_law_1064 (by decide)) ?_
      refine xw_ii (show xm_Imp g Γ 1065 (xi_ii (fun x y => x + y) 1066) from xs_iadd hΓ dL_law_1065) ?_
      obtain ⟨v275, e1, e⟩ := e
      refine xw_hial (o := l0) (show xm_Imp g Γ 1066 (xi_ial 1067) from xs_ial hG hΓ dL_law_1066) ha268 e1 ?_
      refine xw_aldo (x := l0) (show xm_Imp g Γ 1067 (xi_ald 0 1068) from xs_aload_n hΓ dL_law_1067) rfl ?_
      refine xw_ild (show xm_Imp g Γ 1068 (xi_ild 5 1070) from xs_iload hΓ dL_law_1068) rfl ?_
      refine xw_psh (v := (.int (2))) (show xm_Imp g Γ 1070 (xi_psh (.int (2)) 1071) from xs_iconst hΓ dL_law_1070 (by decide)) ?_
      refine xw_ii (show xm_Imp g Γ 1071 (xi_ii (fun x y => x + y) 1072) from xs_iadd hΓ dL_law_1071) ?_
      obtain ⟨v276, e1, e⟩ := e
      refine xw_hial (o := l0) (show xm_Imp g Γ 1072 (xi_ial 1073) from xs_ial hG hΓ dL_law_1072) ha268 e1 ?_
      obtain ⟨a277, ha277, e⟩ := e
      obtain ⟨ad278, σ279, hMad278, hBad278, hhad278, e⟩ := e
      obtain ⟨v280, e1, e⟩ := e
      refine xw_hv2 (o := l2) (u := ()) (show xm_Imp g Γ 1073 (xi_vir g 4 M_X5_row 3 2 1076) from xs_invV hG hΓ k_X5_row rfl (ci := 4) rfl q3301 q3302 q3303 dL_law_1073) (by simp [xm_stk, xv_cat, xc_int, xc_long, xc_float, xc_double, xc_ref]) ha277 (xM_is hhad278) (xM_run hhad278 (fun Q X hQ => K_X5_row hG hMad278 hBad278 v275 v276 σ279 e1 hQ)) ?_
      refine xw_ist (ls' := [some (va_rf l0), some (va_rf l1), some (va_rf l2), some (va_rf l3), some (va_rf l4), some (.int l5), some (.int v274), some (.int v280.1), none]) (show xm_Imp g Γ 1076 (xi_ist 7 1078) from xs_istore hΓ dL_law_1076 (Nat.le_of_ble_eq_true rfl)) rfl ?_
      refine xw_aldo (x := l2) (show xm_Imp g Γ 1078 (xi_ald 2 1079) from xs_aload_n hΓ dL_law_1078) rfl ?_
      obtain ⟨ad281, σ282, hMad281, hBad281, hhad281, e⟩ := e
      obtain ⟨v283, e1, e⟩ := e
      refine xw_hv0 (o := l2) (u := ()) (show xm_Imp g Γ 1079 (xi_vir g 4 M_X5_thrown 1 0 1082) from xs_invV hG hΓ k_X5_thrown rfl (ci := 4) rfl q2978 q2979 q2980 dL_law_1079) (by simp [xm_stk, xv_cat, xc_int, xc_long, xc_float, xc_double, xc_ref]) ha277 (xM_is hhad281) (xM_run0 hhad281 (fun Q X hQ => K_X5_thrown hG hMad281 hBad281 σ282 (Option.some.inj e1) hQ)) ?_
      refine xw_ild (show xm_Imp g Γ 1082 (xi_ild 6 1084) from xs_iload hΓ dL_law_1082) rfl ?_
      refine xw_ic (show xm_Imp g Γ 1084 (xi_ic (fun x y => x = y) 1089 1087) from xs_icmp_eq hΓ dL_law_1084 (by decide)) (fun c => ?_) (fun c => ?_)
      · rw [if_pos c] at e
        refine xw_ild (show xm_Imp g Γ 1089 (xi_ild 6 1091) from xs_iload hΓ dL_law_1089) rfl ?_
        refine xw_if (show xm_Imp g Γ 1091 (xi_if (fun x => x = 0) 1094 1106) from xs_if_ne hΓ dL_law_1091 (by decide)) (fun c => ?_) (fun c => ?_)
        · rw [if_pos c] at e
          refine xw_aldo (x := l3) (show xm_Imp g Γ 1094 (xi_ald 3 1095) from xs_aload_n hΓ dL_law_1094) rfl ?_
          refine xw_psh (v := (.int (0))) (show xm_Imp g Γ 1095 (xi_psh (.int (0)) 1096) from xs_iconst hΓ dL_law_1095 (by decide)) ?_
          obtain ⟨a284, ha284, e⟩ := e
          obtain ⟨v285, e1, e⟩ := e
          refine xw_hlal (o := l3) (show xm_Imp g Γ 1096 (xi_lal 1097) from xs_lal hG hΓ dL_law_1096) ha284 e1 ?_
          refine xw_ild (show xm_Imp g Γ 1097 (xi_ild 7 1099) from xs_iload hΓ dL_law_1097) rfl ?_
          refine xw_i2l (show xm_Imp g Γ 1099 (xi_i2l 1100) from xs_i2l hΓ dL_law_1099) ?_
          refine xw_lcmp (show xm_Imp g Γ 1100 (xi_lcmp 1101) from xs_lcmp hΓ dL_law_1100) ?_
          refine xw_if (show xm_Imp g Γ 1101 (xi_if (fun x => x = 0) 1106 1104) from xs_if_eq hΓ dL_law_1101 (by decide)) (fun c => ?_) (fun c => ?_)
          · rw [if_pos c] at e
            exact xm_lx (hB_1106 _ _ _ _ e) (And.intro rfl (And.intro rfl (And.intro rfl (And.intro rfl (And.intro rfl (And.intro rfl (trivial)))))))
          · rw [if_neg c] at e
            refine xw_psh (v := (.int (0))) (show xm_Imp g Γ 1104 (xi_psh (.int (0)) 1105) from xs_iconst hΓ dL_law_1104 (by decide)) ?_
            exact xw_iret (show xm_Imp g Γ 1105 (xi_iret .boolean _) from xs_ireturn hΓ rfl dL_law_1105) rfl ⟨_, rfl, e⟩
        · rw [if_neg c] at e
          exact xm_lx (hB_1106 _ _ _ _ e) (And.intro rfl (And.intro rfl (And.intro rfl (And.intro rfl (And.intro rfl (And.intro rfl (trivial)))))))
      · rw [if_neg c] at e
        refine xw_psh (v := (.int (0))) (show xm_Imp g Γ 1087 (xi_psh (.int (0)) 1088) from xs_iconst hΓ dL_law_1087 (by decide)) ?_
        exact xw_iret (show xm_Imp g Γ 1088 (xi_iret .boolean _) from xs_ireturn hΓ rfl dL_law_1088) rfl ⟨_, rfl, e⟩
    have hB_1174 : ∀ (l5 : Int32) (h : xm_H) (bc : Nat) (bs : Nat), B_L_law_1174 g l0 l1 l2 l3 l4 l5 h bc bs k28 Q → xm_W g Γ 1174 [some (va_rf l0), some (va_rf l1), some (va_rf l2), some (va_rf l3), some (va_rf l4), some (.int l5), none, none, none] [] h bc bs := by
      intro l5 h bc bs e
      unfold B_L_law_1174 at e
      refine xw_goto (show xm_Imp g Γ 1174 (xi_goto 2924) from xs_goto hΓ dL_law_1174 (by decide)) ?_
      exact hB_2924 _ _ _ _ e
    have hB_1109 : ∀ (l5 : Int32) (h : xm_H) (bc : Nat) (bs : Nat), B_L_law_1109 g l0 l1 l2 l3 l4 l5 h bc bs k28 Q → xm_W g Γ 1109 [some (va_rf l0), some (va_rf l1), some (va_rf l2), some (va_rf l3), some (va_rf l4), some (.int l5), none, none, none] [] h bc bs := by
      intro l5 h bc bs e
      unfold B_L_law_1109 at e
      refine xw_aldo (x := l1) (show xm_Imp g Γ 1109 (xi_ald 1 1110) from xs_aload_n hΓ dL_law_1109) rfl ?_
      refine xw_aldo (x := l0) (show xm_Imp g Γ 1110 (xi_ald 0 1111) from xs_aload_n hΓ dL_law_1110) rfl ?_
      refine xw_ild (show xm_Imp g Γ 1111 (xi_ild 5 1113) from xs_iload hΓ dL_law_1111) rfl ?_
      refine xw_psh (v := (.int (1))) (show xm_Imp g Γ 1113 (xi_psh (.int (1)) 1114) from xs_iconst hΓ dL_law_1113 (by decide)) ?_
      refine xw_ii (show xm_Imp g Γ 1114 (xi_ii (fun x y => x + y) 1115) from xs_iadd hΓ dL_law_1114) ?_
      obtain ⟨a286, ha286, e⟩ := e
      obtain ⟨v287, e1, e⟩ := e
      refine xw_hial (o := l0) (show xm_Imp g Γ 1115 (xi_ial 1116) from xs_ial hG hΓ dL_law_1115) ha286 e1 ?_
      refine xw_aldo (x := l0) (show xm_Imp g Γ 1116 (xi_ald 0 1117) from xs_aload_n hΓ dL_law_1116) rfl ?_
      refine xw_ild (show xm_Imp g Γ 1117 (xi_ild 5 1119) from xs_iload hΓ dL_law_1117) rfl ?_
      refine xw_psh (v := (.int (2))) (show xm_Imp g Γ 1119 (xi_psh (.int (2)) 1120) from xs_iconst hΓ dL_law_1119 (by decide)) ?_
      refine xw_ii (show xm_Imp g Γ 1120 (xi_ii (fun x y => x + y) 1121) from xs_iadd hΓ dL_law_1120) ?_
      obtain ⟨v288, e1, e⟩ := e
      refine xw_hial (o := l0) (show xm_Imp g Γ 1121 (xi_ial 1122) from xs_ial hG hΓ dL_law_1121) ha286 e1 ?_
      refine xw_aldo (x := l3) (show xm_Imp g Γ 1122 (xi_ald 3 1123) from xs_aload_n hΓ dL_law_1122) rfl ?_
      obtain ⟨m289, m290, ⟨em1, em2⟩, e⟩ := e
      refine xw_tsi4 (show xm_Imp g Γ 1123 (xi_inv g M_X0_canonical 12 4 1126) from xs_invSW hG hΓ k_X0_canonical rfl q1986 q1987 dL_law_1123) rfl em1 em2 (K_X0_canonical hG l1 v287 v288 l3 _ _ _ e) (fun v292 h291 e => ?_)
      refine xw_ist (ls' := [some (va_rf l0), some (va_rf l1), some (va_rf l2), some (va_rf l3), some (va_rf l4), some (.int l5), some (.int v292), none, none]) (show xm_Imp g Γ 1126 (xi_ist 6 1128) from xs_istore hΓ dL_law_1126 (Nat.le_of_ble_eq_true rfl)) rfl ?_
      refine xw_aldo (x := l2) (show xm_Imp g Γ 1128 (xi_ald 2 1129) from xs_aload_n hΓ dL_law_1128) rfl ?_
      refine xw_aldo (x := l0) (show xm_Imp g Γ 1129 (xi_ald 0 1130) from xs_aload_n hΓ dL_law_1129) rfl ?_
      refine xw_ild (show xm_Imp g Γ 1130 (xi_ild 5 1132) from xs_iload hΓ dL_law_1130) rfl ?_
      refine xw_psh (v := (.int (1))) (show xm_Imp g Γ 1132 (xi_psh (.int (1)) 1133) from xs_iconst hΓ dL_law_1132 (by decide)) ?_
      refine xw_ii (show xm_Imp g Γ 1133 (xi_ii (fun x y => x + y) 1134) from xs_iadd hΓ dL_law_1133) ?_
      obtain ⟨v293, e1, e⟩ := e
      refine xw_hial (o := l0) (show xm_Imp g Γ 1134 (xi_ial 1135) from xs_ial hG hΓ dL_law_1134) ha286 e1 ?_
      refine xw_aldo (x := l0) (show xm_Imp g Γ 1135 (xi_ald 0 1136) from xs_aload_n hΓ dL_law_1135) rfl ?_
      refine xw_ild (show xm_Imp g Γ 1136 (xi_ild 5 1138) from xs_iload hΓ dL_law_1136) rfl ?_
      refine xw_psh (v := (.int (2))) (show xm_Imp g Γ 1138 (xi_psh (.int (2)) 1139) from xs_iconst hΓ dL_law_1138 (by decide)) ?_
      refine xw_ii (show xm_Imp g Γ 1139 (xi_ii (fun x y => x + y) 1140) from xs_iadd hΓ dL_law_1139) ?_
      obtain ⟨v294, e1, e⟩ := e
      refine xw_hial (o := l0) (show xm_Imp g Γ 1140 (xi_ial 1141) from xs_ial hG hΓ dL_law_1140) ha286 e1 ?_
      obtain ⟨a295, ha295, e⟩ := e
      obtain ⟨ad296, σ297, hMad296, hBad296, hhad296, e⟩ := e
      obtain ⟨v298, e1, e⟩ := e
      refine xw_hv2 (o := l2) (u := ()) (show xm_Imp g Γ 1141 (xi_vir g 4 M_X5_canonical 8 2 1144) from xs_invV hG hΓ k_X5_canonical rfl (ci := 4) rfl q3284 q3285 q3286 dL_law_1141) (by simp [xm_stk, xv_cat, xc_int, xc_long, xc_float, xc_double, xc_ref]) ha295 (xM_is hhad296) (xM_run hhad296 (fun Q X hQ => K_X5_canonical hG hMad296 hBad296 v293 v294 σ297 e1 hQ)) ?_
      refine xw_ist (ls' := [some (va_rf l0), some (va_rf l1), some (va_rf l2), some (va_rf l3), some (va_rf l4), some (.int l5), some (.int v292), some (.int v298.1), none]) (show xm_Imp g Γ 1144 (xi_ist 7 1146) from xs_istore hΓ dL_law_1144 (Nat.le_of_ble_eq_true rfl)) rfl ?_
      refine xw_aldo (x := l2) (show xm_Imp g Γ 1146 (xi_ald 2 1147) from xs_aload_n hΓ dL_law_1146) rfl ?_
      obtain ⟨ad299, σ300, hMad299, hBad299, hhad299, e⟩ := e
      obtain ⟨v301, e1, e⟩ := e
      refine xw_hv0 (o := l2) (u := ()) (show xm_Imp g Γ 1147 (xi_vir g 4 M_X5_thrown 1 0 1150) from xs_invV hG hΓ k_X5_thrown rfl (ci := 4) rfl q2978 q2979 q2980 dL_law_1147) (by simp [xm_stk, xv_cat, xc_int, xc_long, xc_float, xc_double, xc_ref]) ha295 (xM_is hhad299) (xM_run0 hhad299 (fun Q X hQ => K_X5_thrown hG hMad299 hBad299 σ300 (Option.some.inj e1) hQ)) ?_
      refine xw_ild (show xm_Imp g Γ 1150 (xi_ild 6 1152) from xs_iload hΓ dL_law_1150) rfl ?_
      refine xw_ic (show xm_Imp g Γ 1152 (xi_ic (fun x y => x = y) 1157 1155) from xs_icmp_eq hΓ dL_law_1152 (by decide)) (fun c => ?_) (fun c => ?_)
      · rw [if_pos c] at e
        refine xw_ild (show xm_Imp g Γ 1157 (xi_ild 6 1159) from xs_iload hΓ dL_law_1157) rfl ?_
        refine xw_if (show xm_Imp g Γ 1159 (xi_if (fun x => x = 0) 1162 1174) from xs_if_ne hΓ dL_law_1159 (by decide)) (fun c => ?_) (fun c => ?_)
        · rw [if_pos c] at e
          refine xw_aldo (x := l3) (show xm_Imp g Γ 1162 (xi_ald 3 1163) from xs_aload_n hΓ dL_law_1162) rfl ?_
          refine xw_psh (v := (.int (0))) (show xm_Imp g Γ 1163 (xi_psh (.int (0)) 1164) from xs_iconst hΓ dL_law_1163 (by decide)) ?_
          obtain ⟨a302, ha302, e⟩ := e
          obtain ⟨v303, e1, e⟩ := e
          refine xw_hlal (o := l3) (show xm_Imp g Γ 1164 (xi_lal 1165) from xs_lal hG hΓ dL_law_1164) ha302 e1 ?_
          refine xw_ild (show xm_Imp g Γ 1165 (xi_ild 7 1167) from xs_iload hΓ dL_law_1165) rfl ?_
          refine xw_i2l (show xm_Imp g Γ 1167 (xi_i2l 1168) from xs_i2l hΓ dL_law_1167) ?_
          refine xw_lcmp (show xm_Imp g Γ 1168 (xi_lcmp 1169) from xs_lcmp hΓ dL_law_1168) ?_
          refine xw_if (show xm_Imp g Γ 1169 (xi_if (fun x => x = 0) 1174 1172) from xs_if_eq hΓ dL_law_1169 (by decide)) (fun c => ?_) (fun c => ?_)
          · rw [if_pos c] at e
            exact xm_lx (hB_1174 _ _ _ _ e) (And.intro rfl (And.intro rfl (And.intro rfl (And.intro rfl (And.intro rfl (And.intro rfl (trivial)))))))
          · rw [if_neg c] at e
            refine xw_psh (v := (.int (0))) (show xm_Imp g Γ 1172 (xi_psh (.int (0)) 1173) from xs_iconst hΓ dL_law_1172 (by decide)) ?_
            exact xw_iret (show xm_Imp g Γ 1173 (xi_iret .boolean _) from xs_ireturn hΓ rfl dL_law_1173) rfl ⟨_, rfl, e⟩
        · rw [if_neg c] at e
          exact xm_lx (hB_1174 _ _ _ _ e) (And.intro rfl (And.intro rfl (And.intro rfl (And.intro rfl (And.intro rfl (And.intro rfl (trivial)))))))
      · rw [if_neg c] at e
        refine xw_psh (v := (.int (0))) (show xm_Imp g Γ 1155 (xi_psh (.int (0)) 1156) from xs_iconst hΓ dL_law_1155 (by decide)) ?_
        exact xw_iret (show xm_Imp g Γ 1156 (xi_iret .boolean _) from xs_ireturn hΓ rfl dL_law_1156) rfl ⟨_, rfl, e⟩
    have hB_1242 : ∀ (l5 : Int32) (h : xm_H) (bc : Nat) (bs : Nat), B_L_law_1242 g l0 l1 l2 l3 l4 l5 h bc bs k28 Q → xm_W g Γ 1242 [some (va_rf l0), some (va_rf l1), some (va_rf l2), some (va_rf l3), some (va_rf l4), some (.int l5), none, none, none] [] h bc bs := by
      intro l5 h bc bs e
      unfold B_L_law_1242 at e
      refine xw_goto (show xm_Imp g Γ 1242 (xi_goto 2924) from xs_goto hΓ dL_law_1242 (by decide)) ?_
      exact hB_2924 _ _ _ _ e
    have hB_1177 : ∀ (l5 : Int32) (h : xm_H) (bc : Nat) (bs : Nat), B_L_law_1177 g l0 l1 l2 l3 l4 l5 h bc bs k28 Q → xm_W g Γ 1177 [some (va_rf l0), some (va_rf l1), some (va_rf l2), some (va_rf l3), some (va_rf l4), some (.int l5), none, none, none] [] h bc bs := by
      intro l5 h bc bs e
      unfold B_L_law_1177 at e
      refine xw_aldo (x := l1) (show xm_Imp g Γ 1177 (xi_ald 1 1178) from xs_aload_n hΓ dL_law_1177) rfl ?_
      refine xw_aldo (x := l0) (show xm_Imp g Γ 1178 (xi_ald 0 1179) from xs_aload_n hΓ dL_law_1178) rfl ?_
      refine xw_ild (show xm_Imp g Γ 1179 (xi_ild 5 1181) from xs_iload hΓ dL_law_1179) rfl ?_
      refine xw_psh (v := (.int (1))) (show xm_Imp g Γ 1181 (xi_psh (.int (1)) 1182) from xs_iconst hΓ dL_law_1181 (by decide)) ?_
      refine xw_ii (show xm_Imp g Γ 1182 (xi_ii (fun x y => x + y) 1183) from xs_iadd hΓ dL_law_1182) ?_
      obtain ⟨a304, ha304, e⟩ := e
      obtain ⟨v305, e1, e⟩ := e
      refine xw_hial (o := l0) (show xm_Imp g Γ 1183 (xi_ial 1184) from xs_ial hG hΓ dL_law_1183) ha304 e1 ?_
      refine xw_aldo (x := l0) (show xm_Imp g Γ 1184 (xi_ald 0 1185) from xs_aload_n hΓ dL_law_1184) rfl ?_
      refine xw_ild (show xm_Imp g Γ 1185 (xi_ild 5 1187) from xs_iload hΓ dL_law_1185) rfl ?_
      refine xw_psh (v := (.int (2))) (show xm_Imp g Γ 1187 (xi_psh (.int (2)) 1188) from xs_iconst hΓ dL_law_1187 (by decide)) ?_
      refine xw_ii (show xm_Imp g Γ 1188 (xi_ii (fun x y => x + y) 1189) from xs_iadd hΓ dL_law_1188) ?_
      obtain ⟨v306, e1, e⟩ := e
      refine xw_hial (o := l0) (show xm_Imp g Γ 1189 (xi_ial 1190) from xs_ial hG hΓ dL_law_1189) ha304 e1 ?_
      refine xw_aldo (x := l3) (show xm_Imp g Γ 1190 (xi_ald 3 1191) from xs_aload_n hΓ dL_law_1190) rfl ?_
      obtain ⟨m307, m308, ⟨em1, em2⟩, e⟩ := e
      refine xw_tsi4 (show xm_Imp g Γ 1191 (xi_inv g M_X0_measured 12 4 1194) from xs_invSW hG hΓ k_X0_measured rfl q1993 q1994 dL_law_1191) rfl em1 em2 (K_X0_measured hG l1 v305 v306 l3 _ _ _ e) (fun v310 h309 e => ?_)
      refine xw_ist (ls' := [some (va_rf l0), some (va_rf l1), some (va_rf l2), some (va_rf l3), some (va_rf l4), some (.int l5), some (.int v310), none, none]) (show xm_Imp g Γ 1194 (xi_ist 6 1196) from xs_istore hΓ dL_law_1194 (Nat.le_of_ble_eq_true rfl)) rfl ?_
      refine xw_aldo (x := l2) (show xm_Imp g Γ 1196 (xi_ald 2 1197) from xs_aload_n hΓ dL_law_1196) rfl ?_
      refine xw_aldo (x := l0) (show xm_Imp g Γ 1197 (xi_ald 0 1198) from xs_aload_n hΓ dL_law_1197) rfl ?_
      refine xw_ild (show xm_Imp g Γ 1198 (xi_ild 5 1200) from xs_iload hΓ dL_law_1198) rfl ?_
      refine xw_psh (v := (.int (1))) (show xm_Imp g Γ 1200 (xi_psh (.int (1)) 1201) from xs_iconst hΓ dL_law_1200 (by decide)) ?_
      refine xw_ii (show xm_Imp g Γ 1201 (xi_ii (fun x y => x + y) 1202) from xs_iadd hΓ dL_law_1201) ?_
      obtain ⟨v311, e1, e⟩ := e
      refine xw_hial (o := l0) (show xm_Imp g Γ 1202 (xi_ial 1203) from xs_ial hG hΓ dL_law_1202) ha304 e1 ?_
      refine xw_aldo (x := l0) (show xm_Imp g Γ 1203 (xi_ald 0 1204) from xs_aload_n hΓ dL_law_1203) rfl ?_
      refine xw_ild (show xm_Imp g Γ 1204 (xi_ild 5 1206) from xs_iload hΓ dL_law_1204) rfl ?_
      refine xw_psh (v := (.int (2))) (show xm_Imp g Γ 1206 (xi_psh (.int (2)) 1207) from xs_iconst hΓ dL_law_1206 (by decide)) ?_
      refine xw_ii (show xm_Imp g Γ 1207 (xi_ii (fun x y => x + y) 1208) from xs_iadd hΓ dL_law_1207) ?_
      obtain ⟨v312, e1, e⟩ := e
      refine xw_hial (o := l0) (show xm_Imp g Γ 1208 (xi_ial 1209) from xs_ial hG hΓ dL_law_1208) ha304 e1 ?_
      obtain ⟨a313, ha313, e⟩ := e
      obtain ⟨ad314, σ315, hMad314, hBad314, hhad314, e⟩ := e
      obtain ⟨v316, e1, e⟩ := e
      refine xw_hv2 (o := l2) (u := ()) (show xm_Imp g Γ 1209 (xi_vir g 4 M_X5_measured 2 2 1212) from xs_invV hG hΓ k_X5_measured rfl (ci := 4) rfl q3305 q3306 q3307 dL_law_1209) (by simp [xm_stk, xv_cat, xc_int, xc_long, xc_float, xc_double, xc_ref]) ha313 (xM_is hhad314) (xM_run hhad314 (fun Q X hQ => K_X5_measured hG hMad314 hBad314 v311 v312 σ315 e1 hQ)) ?_
      refine xw_ist (ls' := [some (va_rf l0), some (va_rf l1), some (va_rf l2), some (va_rf l3), some (va_rf l4), some (.int l5), some (.int v310), some (.int v316.1), none]) (show xm_Imp g Γ 1212 (xi_ist 7 1214) from xs_istore hΓ dL_law_1212 (Nat.le_of_ble_eq_true rfl)) rfl ?_
      refine xw_aldo (x := l2) (show xm_Imp g Γ 1214 (xi_ald 2 1215) from xs_aload_n hΓ dL_law_1214) rfl ?_
      obtain ⟨ad317, σ318, hMad317, hBad317, hhad317, e⟩ := e
      obtain ⟨v319, e1, e⟩ := e
      refine xw_hv0 (o := l2) (u := ()) (show xm_Imp g Γ 1215 (xi_vir g 4 M_X5_thrown 1 0 1218) from xs_invV hG hΓ k_X5_thrown rfl (ci := 4) rfl q2978 q2979 q2980 dL_law_1215) (by simp [xm_stk, xv_cat, xc_int, xc_long, xc_float, xc_double, xc_ref]) ha313 (xM_is hhad317) (xM_run0 hhad317 (fun Q X hQ => K_X5_thrown hG hMad317 hBad317 σ318 (Option.some.inj e1) hQ)) ?_
      refine xw_ild (show xm_Imp g Γ 1218 (xi_ild 6 1220) from xs_iload hΓ dL_law_1218) rfl ?_
      refine xw_ic (show xm_Imp g Γ 1220 (xi_ic (fun x y => x = y) 1225 1223) from xs_icmp_eq hΓ dL_law_1220 (by decide)) (fun c => ?_) (fun c => ?_)
      · rw [if_pos c] at e
        refine xw_ild (show xm_Imp g Γ 1225 (xi_ild 6 1227) from xs_iload hΓ dL_law_1225) rfl ?_
        refine xw_if (show xm_Imp g Γ 1227 (xi_if (fun x => x = 0) 1230 1242) from xs_if_ne hΓ dL_law_1227 (by decide)) (fun c => ?_) (fun c => ?_)
        · rw [if_pos c] at e
          refine xw_aldo (x := l3) (show xm_Imp g Γ 1230 (xi_ald 3 1231) from xs_aload_n hΓ dL_law_1230) rfl ?_
          refine xw_psh (v := (.int (0))) (show xm_Imp g Γ 1231 (xi_psh (.int (0)) 1232) from xs_iconst hΓ dL_law_1231 (by decide)) ?_
          obtain ⟨a320, ha320, e⟩ := e
          obtain ⟨v321, e1, e⟩ := e
          refine xw_hlal (o := l3) (show xm_Imp g Γ 1232 (xi_lal 1233) from xs_lal hG hΓ dL_law_1232) ha320 e1 ?_
          refine xw_ild (show xm_Imp g Γ 1233 (xi_ild 7 1235) from xs_iload hΓ dL_law_1233) rfl ?_
          refine xw_i2l (show xm_Imp g Γ 1235 (xi_i2l 1236) from xs_i2l hΓ dL_law_1235) ?_
          refine xw_lcmp (show xm_Imp g Γ 1236 (xi_lcmp 1237) from xs_lcmp hΓ dL_law_1236) ?_
          refine xw_if (show xm_Imp g Γ 1237 (xi_if (fun x => x = 0) 1242 1240) from xs_if_eq hΓ dL_law_1237 (by decide)) (fun c => ?_) (fun c => ?_)
          · rw [if_pos c] at e
            exact xm_lx (hB_1242 _ _ _ _ e) (And.intro rfl (And.intro rfl (And.intro rfl (And.intro rfl (And.intro rfl (And.intro rfl (trivial)))))))
          · rw [if_neg c] at e
            refine xw_psh (v := (.int (0))) (show xm_Imp g Γ 1240 (xi_psh (.int (0)) 1241) from xs_iconst hΓ dL_law_1240 (by decide)) ?_
            exact xw_iret (show xm_Imp g Γ 1241 (xi_iret .boolean _) from xs_ireturn hΓ rfl dL_law_1241) rfl ⟨_, rfl, e⟩
        · rw [if_neg c] at e
          exact xm_lx (hB_1242 _ _ _ _ e) (And.intro rfl (And.intro rfl (And.intro rfl (And.intro rfl (And.intro rfl (And.intro rfl (trivial)))))))
      · rw [if_neg c] at e
        refine xw_psh (v := (.int (0))) (show xm_Imp g Γ 1223 (xi_psh (.int (0)) 1224) from xs_iconst hΓ dL_law_1223 (by decide)) ?_
        exact xw_iret (show xm_Imp g Γ 1224 (xi_iret .boolean _) from xs_ireturn hΓ rfl dL_law_1224) rfl ⟨_, rfl, e⟩
    have hB_1341 : ∀ (l5 : Int32) (h : xm_H) (bc : Nat) (bs : Nat), B_L_law_1341 g l0 l1 l2 l3 l4 l5 h bc bs k28 Q → xm_W g Γ 1341 [some (va_rf l0), some (va_rf l1), some (va_rf l2), some (va_rf l3), some (va_rf l4), some (.int l5), none, none, none] [] h bc bs := by
      intro l5 h bc bs e
      unfold B_L_law_1341 at e
      refine xw_goto (show xm_Imp g Γ 1341 (xi_goto 2924) from xs_goto hΓ dL_law_1341 (by decide)) ?_
      exact hB_2924 _ _ _ _ e
    have hB_1335 : ∀ (l5 : Int32) (s0 : Int64) (s1 : Int64) (h : xm_H) (bc : Nat) (bs : Nat), B_L_law_1335 g l0 l1 l2 l3 l4 l5 s0 s1 h bc bs k28 Q → xm_W g Γ 1335 [some (va_rf l0), some (va_rf l1), some (va_rf l2), some (va_rf l3), some (va_rf l4), some (.int l5), none, none, none] [.long s1, .long s0] h bc bs := by
      intro l5 s0 s1 h bc bs e
      unfold B_L_law_1335 at e
      refine xw_lcmp (show xm_Imp g Γ 1335 (xi_lcmp 1336) from xs_lcmp hΓ dL_law_1335) ?_
      refine xw_if (show xm_Imp g Γ 1336 (xi_if (fun x => x = 0) 1341 1339) from xs_if_eq hΓ dL_law_1336 (by decide)) (fun c => ?_) (fun c => ?_)
      · rw [if_pos c] at e
        exact hB_1341 _ _ _ _ e
      · rw [if_neg c] at e
        refine xw_psh (v := (.int (0))) (show xm_Imp g Γ 1339 (xi_psh (.int (0)) 1340) from xs_iconst hΓ dL_law_1339 (by decide)) ?_
        exact xw_iret (show xm_Imp g Γ 1340 (xi_iret .boolean _) from xs_ireturn hΓ rfl dL_law_1340) rfl ⟨_, rfl, e⟩
    have hB_1245 : ∀ (l5 : Int32) (h : xm_H) (bc : Nat) (bs : Nat), B_L_law_1245 g l0 l1 l2 l3 l4 l5 h bc bs k28 Q → xm_W g Γ 1245 [some (va_rf l0), some (va_rf l1), some (va_rf l2), some (va_rf l3), some (va_rf l4), some (.int l5), none, none, none] [] h bc bs := by
      intro l5 h bc bs e
      unfold B_L_law_1245 at e
      refine xw_aldo (x := l1) (show xm_Imp g Γ 1245 (xi_ald 1 1246) from xs_aload_n hΓ dL_law_1245) rfl ?_
      refine xw_aldo (x := l0) (show xm_Imp g Γ 1246 (xi_ald 0 1247) from xs_aload_n hΓ dL_law_1246) rfl ?_
      refine xw_ild (show xm_Imp g Γ 1247 (xi_ild 5 1249) from xs_iload hΓ dL_law_1247) rfl ?_
      refine xw_psh (v := (.int (1))) (show xm_Imp g Γ 1249 (xi_psh (.int (1)) 1250) from xs_iconst hΓ dL_law_1249 (by decide)) ?_
      refine xw_ii (show xm_Imp g Γ 1250 (xi_ii (fun x y => x + y) 1251) from xs_iadd hΓ dL_law_1250) ?_
      obtain ⟨a322, ha322, e⟩ := e
      obtain ⟨v323, e1, e⟩ := e
      refine xw_hial (o := l0) (show xm_Imp g Γ 1251 (xi_ial 1252) from xs_ial hG hΓ dL_law_1251) ha322 e1 ?_
      refine xw_aldo (x := l0) (show xm_Imp g Γ 1252 (xi_ald 0 1253) from xs_aload_n hΓ dL_law_1252) rfl ?_
      refine xw_ild (show xm_Imp g Γ 1253 (xi_ild 5 1255) from xs_iload hΓ dL_law_1253) rfl ?_
      refine xw_psh (v := (.int (2))) (show xm_Imp g Γ 1255 (xi_psh (.int (2)) 1256) from xs_iconst hΓ dL_law_1255 (by decide)) ?_
      refine xw_ii (show xm_Imp g Γ 1256 (xi_ii (fun x y => x + y) 1257) from xs_iadd hΓ dL_law_1256) ?_
      obtain ⟨v324, e1, e⟩ := e
      refine xw_hial (o := l0) (show xm_Imp g Γ 1257 (xi_ial 1258) from xs_ial hG hΓ dL_law_1257) ha322 e1 ?_
      refine xw_aldo (x := l0) (show xm_Imp g Γ 1258 (xi_ald 0 1259) from xs_aload_n hΓ dL_law_1258) rfl ?_
      refine xw_ild (show xm_Imp g Γ 1259 (xi_ild 5 1261) from xs_iload hΓ dL_law_1259) rfl ?_
      refine xw_psh (v := (.int (3))) (show xm_Imp g Γ 1261 (xi_psh (.int (3)) 1262) from xs_iconst hΓ dL_law_1261 (by decide)) ?_
      refine xw_ii (show xm_Imp g Γ 1262 (xi_ii (fun x y => x + y) 1263) from xs_iadd hΓ dL_law_1262) ?_
      obtain ⟨v325, e1, e⟩ := e
      refine xw_hial (o := l0) (show xm_Imp g Γ 1263 (xi_ial 1264) from xs_ial hG hΓ dL_law_1263) ha322 e1 ?_
      refine xw_aldo (x := l0) (show xm_Imp g Γ 1264 (xi_ald 0 1265) from xs_aload_n hΓ dL_law_1264) rfl ?_
      refine xw_ild (show xm_Imp g Γ 1265 (xi_ild 5 1267) from xs_iload hΓ dL_law_1265) rfl ?_
      refine xw_psh (v := (.int (4))) (show xm_Imp g Γ 1267 (xi_psh (.int (4)) 1268) from xs_iconst hΓ dL_law_1267 (by decide)) ?_
      refine xw_ii (show xm_Imp g Γ 1268 (xi_ii (fun x y => x + y) 1269) from xs_iadd hΓ dL_law_1268) ?_
      obtain ⟨v326, e1, e⟩ := e
      refine xw_hial (o := l0) (show xm_Imp g Γ 1269 (xi_ial 1270) from xs_ial hG hΓ dL_law_1269) ha322 e1 ?_
      refine xw_aldo (x := l3) (show xm_Imp g Γ 1270 (xi_ald 3 1271) from xs_aload_n hΓ dL_law_1270) rfl ?_
      obtain ⟨m327, m328, ⟨em1, em2⟩, e⟩ := e
      refine xw_tsi6 (show xm_Imp g Γ 1271 (xi_inv g M_X0_commute 11 6 1274) from xs_invSW hG hΓ k_X0_commute rfl q2000 q2001 dL_law_1271) rfl em1 em2 (K_X0_commute hG l1 v323 v324 v325 v326 l3 _ _ _ e) (fun v330 h329 e => ?_)
      refine xw_ist (ls' := [some (va_rf l0), some (va_rf l1), some (va_rf l2), some (va_rf l3), some (va_rf l4), some (.int l5), some (.int v330), none, none]) (show xm_Imp g Γ 1274 (xi_ist 6 1276) from xs_istore hΓ dL_law_1274 (Nat.le_of_ble_eq_true rfl)) rfl ?_
      refine xw_aldo (x := l2) (show xm_Imp g Γ 1276 (xi_ald 2 1277) from xs_aload_n hΓ dL_law_1276) rfl ?_
      refine xw_aldo (x := l0) (show xm_Imp g Γ 1277 (xi_ald 0 1278) from xs_aload_n hΓ dL_law_1277) rfl ?_
      refine xw_ild (show xm_Imp g Γ 1278 (xi_ild 5 1280) from xs_iload hΓ dL_law_1278) rfl ?_
      refine xw_psh (v := (.int (1))) (show xm_Imp g Γ 1280 (xi_psh (.int (1)) 1281) from xs_iconst hΓ dL_law_1280 (by decide)) ?_
      refine xw_ii (show xm_Imp g Γ 1281 (xi_ii (fun x y => x + y) 1282) from xs_iadd hΓ dL_law_1281) ?_
      obtain ⟨v331, e1, e⟩ := e
      refine xw_hial (o := l0) (show xm_Imp g Γ 1282 (xi_ial 1283) from xs_ial hG hΓ dL_law_1282) ha322 e1 ?_
      refine xw_aldo (x := l0) (show xm_Imp g Γ 1283 (xi_ald 0 1284) from xs_aload_n hΓ dL_law_1283) rfl ?_
      refine xw_ild (show xm_Imp g Γ 1284 (xi_ild 5 1286) from xs_iload hΓ dL_law_1284) rfl ?_
      refine xw_psh (v := (.int (2))) (show xm_Imp g Γ 1286 (xi_psh (.int (2)) 1287) from xs_iconst hΓ dL_law_1286 (by decide)) ?_
      refine xw_ii (show xm_Imp g Γ 1287 (xi_ii (fun x y => x + y) 1288) from xs_iadd hΓ dL_law_1287) ?_
      obtain ⟨v332, e1, e⟩ := e
      refine xw_hial (o := l0) (show xm_Imp g Γ 1288 (xi_ial 1289) from xs_ial hG hΓ dL_law_1288) ha322 e1 ?_
      refine xw_aldo (x := l0) (show xm_Imp g Γ 1289 (xi_ald 0 1290) from xs_aload_n hΓ dL_law_1289) rfl ?_
      refine xw_ild (show xm_Imp g Γ 1290 (xi_ild 5 1292) from xs_iload hΓ dL_law_1290) rfl ?_
      refine xw_psh (v := (.int (3))) (show xm_Imp g Γ 1292 (xi_psh (.int (3)) 1293) from xs_iconst hΓ dL_law_1292 (by decide)) ?_
      refine xw_ii (show xm_Imp g Γ 1293 (xi_ii (fun x y => x + y) 1294) from xs_iadd hΓ dL_law_1293) ?_
      obtain ⟨v333, e1, e⟩ := e
      refine xw_hial (o := l0) (show xm_Imp g Γ 1294 (xi_ial 1295) from xs_ial hG hΓ dL_law_1294) ha322 e1 ?_
      refine xw_aldo (x := l0) (show xm_Imp g Γ 1295 (xi_ald 0 1296) from xs_aload_n hΓ dL_law_1295) rfl ?_
      refine xw_ild (show xm_Imp g Γ 1296 (xi_ild 5 1298) from xs_iload hΓ dL_law_1296) rfl ?_
      refine xw_psh (v := (.int (4))) (show xm_Imp g Γ 1298 (xi_psh (.int (4)) 1299) from xs_iconst hΓ dL_law_1298 (by decide)) ?_
      refine xw_ii (show xm_Imp g Γ 1299 (xi_ii (fun x y => x + y) 1300) from xs_iadd hΓ dL_law_1299) ?_
      obtain ⟨v334, e1, e⟩ := e
      refine xw_hial (o := l0) (show xm_Imp g Γ 1300 (xi_ial 1301) from xs_ial hG hΓ dL_law_1300) ha322 e1 ?_
      obtain ⟨a335, ha335, e⟩ := e
      obtain ⟨ad336, σ337, hMad336, hBad336, hhad336, e⟩ := e
      obtain ⟨v338, e1, e⟩ := e
      refine xw_hv4 (o := l2) (u := ()) (show xm_Imp g Γ 1301 (xi_vir g 4 M_X5_commute 4 4 1304) from xs_invV hG hΓ k_X5_commute rfl (ci := 4) rfl q3309 q3310 q3311 dL_law_1301) (by simp [xm_stk, xv_cat, xc_int, xc_long, xc_float, xc_double, xc_ref]) ha335 (xM_is hhad336) (xM_run hhad336 (fun Q X hQ => K_X5_commute hG hMad336 hBad336 v331 v332 v333 v334 σ337 e1 hQ)) ?_
      refine xw_ist (ls' := [some (va_rf l0), some (va_rf l1), some (va_rf l2), some (va_rf l3), some (va_rf l4), some (.int l5), some (.int v330), some (.int v338.1), none]) (show xm_Imp g Γ 1304 (xi_ist 7 1306) from xs_istore hΓ dL_law_1304 (Nat.le_of_ble_eq_true rfl)) rfl ?_
      refine xw_aldo (x := l2) (show xm_Imp g Γ 1306 (xi_ald 2 1307) from xs_aload_n hΓ dL_law_1306) rfl ?_
      obtain ⟨ad339, σ340, hMad339, hBad339, hhad339, e⟩ := e
      obtain ⟨v341, e1, e⟩ := e
      refine xw_hv0 (o := l2) (u := ()) (show xm_Imp g Γ 1307 (xi_vir g 4 M_X5_thrown 1 0 1310) from xs_invV hG hΓ k_X5_thrown rfl (ci := 4) rfl q2978 q2979 q2980 dL_law_1307) (by simp [xm_stk, xv_cat, xc_int, xc_long, xc_float, xc_double, xc_ref]) ha335 (xM_is hhad339) (xM_run0 hhad339 (fun Q X hQ => K_X5_thrown hG hMad339 hBad339 σ340 (Option.some.inj e1) hQ)) ?_
      refine xw_ild (show xm_Imp g Γ 1310 (xi_ild 6 1312) from xs_iload hΓ dL_law_1310) rfl ?_
      refine xw_ic (show xm_Imp g Γ 1312 (xi_ic (fun x y => x = y) 1317 1315) from xs_icmp_eq hΓ dL_law_1312 (by decide)) (fun c => ?_) (fun c => ?_)
      · rw [if_pos c] at e
        refine xw_ild (show xm_Imp g Γ 1317 (xi_ild 6 1319) from xs_iload hΓ dL_law_1317) rfl ?_
        refine xw_if (show xm_Imp g Γ 1319 (xi_if (fun x => x = 0) 1322 1341) from xs_if_ne hΓ dL_law_1319 (by decide)) (fun c => ?_) (fun c => ?_)
        · rw [if_pos c] at e
          refine xw_aldo (x := l3) (show xm_Imp g Γ 1322 (xi_ald 3 1323) from xs_aload_n hΓ dL_law_1322) rfl ?_
          refine xw_psh (v := (.int (0))) (show xm_Imp g Γ 1323 (xi_psh (.int (0)) 1324) from xs_iconst hΓ dL_law_1323 (by decide)) ?_
          obtain ⟨a342, ha342, e⟩ := e
          obtain ⟨v343, e1, e⟩ := e
          refine xw_hlal (o := l3) (show xm_Imp g Γ 1324 (xi_lal 1325) from xs_lal hG hΓ dL_law_1324) ha342 e1 ?_
          refine xw_ild (show xm_Imp g Γ 1325 (xi_ild 7 1327) from xs_iload hΓ dL_law_1325) rfl ?_
          refine xw_if (show xm_Imp g Γ 1327 (xi_if (fun x => x = 0) 1334 1330) from xs_if_eq hΓ dL_law_1327 (by decide)) (fun c => ?_) (fun c => ?_)
          · rw [if_pos c] at e
            refine xw_psh (v := (.long 0)) (show xm_Imp g Γ 1334 (xi_psh (.long 0) 1335) from xs_lconst hΓ dL_law_1334 (by decide)) ?_
            exact xm_lx (hB_1335 _ _ _ _ _ _ e) (And.intro rfl (And.intro rfl (And.intro rfl (And.intro rfl (And.intro rfl (And.intro rfl (trivial)))))))
          · rw [if_neg c] at e
            refine xw_psh (v := (.long 1)) (show xm_Imp g Γ 1330 (xi_psh (.long 1) 1331) from xs_lconst hΓ dL_law_1330 (by decide)) ?_
            refine xw_goto (show xm_Imp g Γ 1331 (xi_goto 1335) from xs_goto hΓ dL_law_1331 (by decide)) ?_
            exact xm_lx (hB_1335 _ _ _ _ _ _ e) (And.intro rfl (And.intro rfl (And.intro rfl (And.intro rfl (And.intro rfl (And.intro rfl (trivial)))))))
        · rw [if_neg c] at e
          exact xm_lx (hB_1341 _ _ _ _ e) (And.intro rfl (And.intro rfl (And.intro rfl (And.intro rfl (And.intro rfl (And.intro rfl (trivial)))))))
      · rw [if_neg c] at e
        refine xw_psh (v := (.int (0))) (show xm_Imp g Γ 1315 (xi_psh (.int (0)) 1316) from xs_iconst hΓ dL_law_1315 (by decide)) ?_
        exact xw_iret (show xm_Imp g Γ 1316 (xi_iret .boolean _) from xs_ireturn hΓ rfl dL_law_1316) rfl ⟨_, rfl, e⟩
    have hB_1433 : ∀ (l5 : Int32) (h : xm_H) (bc : Nat) (bs : Nat), B_L_law_1433 g l0 l1 l2 l3 l4 l5 h bc bs k28 Q → xm_W g Γ 1433 [some (va_rf l0), some (va_rf l1), some (va_rf l2), some (va_rf l3), some (va_rf l4), some (.int l5), none, none, none] [] h bc bs := by
      intro l5 h bc bs e
      unfold B_L_law_1433 at e
      refine xw_goto (show xm_Imp g Γ 1433 (xi_goto 2924) from xs_goto hΓ dL_law_1433 (by decide)) ?_
      exact hB_2924 _ _ _ _ e
    have hB_1344 : ∀ (l5 : Int32) (h : xm_H) (bc : Nat) (bs : Nat), B_L_law_1344 g l0 l1 l2 l3 l4 l5 h bc bs k28 Q → xm_W g Γ 1344 [some (va_rf l0), some (va_rf l1), some (va_rf l2), some (va_rf l3), some (va_rf l4), some (.int l5), none, none, none] [] h bc bs := by
      intro l5 h bc bs e
      unfold B_L_law_1344 at e
      refine xw_aldo (x := l1) (show xm_Imp g Γ 1344 (xi_ald 1 1345) from xs_aload_n hΓ dL_law_1344) rfl ?_
      refine xw_aldo (x := l0) (show xm_Imp g Γ 1345 (xi_ald 0 1346) from xs_aload_n hΓ dL_law_1345) rfl ?_
      refine xw_ild (show xm_Imp g Γ 1346 (xi_ild 5 1348) from xs_iload hΓ dL_law_1346) rfl ?_
      refine xw_psh (v := (.int (1))) (show xm_Imp g Γ 1348 (xi_psh (.int (1)) 1349) from xs_iconst hΓ dL_law_1348 (by decide)) ?_
      refine xw_ii (show xm_Imp g Γ 1349 (xi_ii (fun x y => x + y) 1350) from xs_iadd hΓ dL_law_1349) ?_
      obtain ⟨a344, ha344, e⟩ := e
      obtain ⟨v345, e1, e⟩ := e
      refine xw_hial (o := l0) (show xm_Imp g Γ 1350 (xi_ial 1351) from xs_ial hG hΓ dL_law_1350) ha344 e1 ?_
      refine xw_aldo (x := l0) (show xm_Imp g Γ 1351 (xi_ald 0 1352) from xs_aload_n hΓ dL_law_1351) rfl ?_
      refine xw_ild (show xm_Imp g Γ 1352 (xi_ild 5 1354) from xs_iload hΓ dL_law_1352) rfl ?_
      refine xw_psh (v := (.int (2))) (show xm_Imp g Γ 1354 (xi_psh (.int (2)) 1355) from xs_iconst hΓ dL_law_1354 (by decide)) ?_
      refine xw_ii (show xm_Imp g Γ 1355 (xi_ii (fun x y => x + y) 1356) from xs_iadd hΓ dL_law_1355) ?_
      obtain ⟨v346, e1, e⟩ := e
      refine xw_hial (o := l0) (show xm_Imp g Γ 1356 (xi_ial 1357) from xs_ial hG hΓ dL_law_1356) ha344 e1 ?_
      refine xw_aldo (x := l0) (show xm_Imp g Γ 1357 (xi_ald 0 1358) from xs_aload_n hΓ dL_law_1357) rfl ?_
      refine xw_ild (show xm_Imp g Γ 1358 (xi_ild 5 1360) from xs_iload hΓ dL_law_1358) rfl ?_
      refine xw_psh (v := (.int (3))) (show xm_Imp g Γ 1360 (xi_psh (.int (3)) 1361) from xs_iconst hΓ dL_law_1360 (by decide)) ?_
      refine xw_ii (show xm_Imp g Γ 1361 (xi_ii (fun x y => x + y) 1362) from xs_iadd hΓ dL_law_1361) ?_
      obtain ⟨v347, e1, e⟩ := e
      refine xw_hial (o := l0) (show xm_Imp g Γ 1362 (xi_ial 1363) from xs_ial hG hΓ dL_law_1362) ha344 e1 ?_
      refine xw_aldo (x := l0) (show xm_Imp g Γ 1363 (xi_ald 0 1364) from xs_aload_n hΓ dL_law_1363) rfl ?_
      refine xw_ild (show xm_Imp g Γ 1364 (xi_ild 5 1366) from xs_iload hΓ dL_law_1364) rfl ?_
      refine xw_psh (v := (.int (4))) (show xm_Imp g Γ 1366 (xi_psh (.int (4)) 1367) from xs_iconst hΓ dL_law_1366 (by decide)) ?_
      refine xw_ii (show xm_Imp g Γ 1367 (xi_ii (fun x y => x + y) 1368) from xs_iadd hΓ dL_law_1367) ?_
      obtain ⟨v348, e1, e⟩ := e
      refine xw_hial (o := l0) (show xm_Imp g Γ 1368 (xi_ial 1369) from xs_ial hG hΓ dL_law_1368) ha344 e1 ?_
      refine xw_aldo (x := l3) (show xm_Imp g Γ 1369 (xi_ald 3 1370) from xs_aload_n hΓ dL_law_1369) rfl ?_
      obtain ⟨m349, m350, ⟨em1, em2⟩, e⟩ := e
      refine xw_tsi6 (show xm_Imp g Γ 1370 (xi_inv g M_X0_phase 11 6 1373) from xs_invSW hG hΓ k_X0_phase rfl q2008 q2009 dL_law_1370) rfl em1 em2 (K_X0_phase hG l1 v345 v346 v347 v348 l3 _ _ _ e) (fun v352 h351 e => ?_)
      refine xw_ist (ls' := [some (va_rf l0), some (va_rf l1), some (va_rf l2), some (va_rf l3), some (va_rf l4), some (.int l5), some (.int v352), none, none]) (show xm_Imp g Γ 1373 (xi_ist 6 1375) from xs_istore hΓ dL_law_1373 (Nat.le_of_ble_eq_true rfl)) rfl ?_
      refine xw_aldo (x := l2) (show xm_Imp g Γ 1375 (xi_ald 2 1376) from xs_aload_n hΓ dL_law_1375) rfl ?_
      refine xw_aldo (x := l0) (show xm_Imp g Γ 1376 (xi_ald 0 1377) from xs_aload_n hΓ dL_law_1376) rfl ?_
      refine xw_ild (show xm_Imp g Γ 1377 (xi_ild 5 1379) from xs_iload hΓ dL_law_1377) rfl ?_
      refine xw_psh (v := (.int (1))) (show xm_Imp g Γ 1379 (xi_psh (.int (1)) 1380) from xs_iconst hΓ dL_law_1379 (by decide)) ?_
      refine xw_ii (show xm_Imp g Γ 1380 (xi_ii (fun x y => x + y) 1381) from xs_iadd hΓ dL_law_1380) ?_
      obtain ⟨v353, e1, e⟩ := e
      refine xw_hial (o := l0) (show xm_Imp g Γ 1381 (xi_ial 1382) from xs_ial hG hΓ dL_law_1381) ha344 e1 ?_
      refine xw_aldo (x := l0) (show xm_Imp g Γ 1382 (xi_ald 0 1383) from xs_aload_n hΓ dL_law_1382) rfl ?_
      refine xw_ild (show xm_Imp g Γ 1383 (xi_ild 5 1385) from xs_iload hΓ dL_law_1383) rfl ?_
      refine xw_psh (v := (.int (2))) (show xm_Imp g Γ 1385 (xi_psh (.int (2)) 1386) from xs_iconst hΓ dL_law_1385 (by decide)) ?_
      refine xw_ii (show xm_Imp g Γ 1386 (xi_ii (fun x y => x + y) 1387) from xs_iadd hΓ dL_law_1386) ?_
      obtain ⟨v354, e1, e⟩ := e
      refine xw_hial (o := l0) (show xm_Imp g Γ 1387 (xi_ial 1388) from xs_ial hG hΓ dL_law_1387) ha344 e1 ?_
      refine xw_aldo (x := l0) (show xm_Imp g Γ 1388 (xi_ald 0 1389) from xs_aload_n hΓ dL_law_1388) rfl ?_
      refine xw_ild (show xm_Imp g Γ 1389 (xi_ild 5 1391) from xs_iload hΓ dL_law_1389) rfl ?_
      refine xw_psh (v := (.int (3))) (show xm_Imp g Γ 1391 (xi_psh (.int (3)) 1392) from xs_iconst hΓ dL_law_1391 (by decide)) ?_
      refine xw_ii (show xm_Imp g Γ 1392 (xi_ii (fun x y => x + y) 1393) from xs_iadd hΓ dL_law_1392) ?_
      obtain ⟨v355, e1, e⟩ := e
      refine xw_hial (o := l0) (show xm_Imp g Γ 1393 (xi_ial 1394) from xs_ial hG hΓ dL_law_1393) ha344 e1 ?_
      refine xw_aldo (x := l0) (show xm_Imp g Γ 1394 (xi_ald 0 1395) from xs_aload_n hΓ dL_law_1394) rfl ?_
      refine xw_ild (show xm_Imp g Γ 1395 (xi_ild 5 1397) from xs_iload hΓ dL_law_1395) rfl ?_
      refine xw_psh (v := (.int (4))) (show xm_Imp g Γ 1397 (xi_psh (.int (4)) 1398) from xs_iconst hΓ dL_law_1397 (by decide)) ?_
      refine xw_ii (show xm_Imp g Γ 1398 (xi_ii (fun x y => x + y) 1399) from xs_iadd hΓ dL_law_1398) ?_
      obtain ⟨v356, e1, e⟩ := e
      refine xw_hial (o := l0) (show xm_Imp g Γ 1399 (xi_ial 1400) from xs_ial hG hΓ dL_law_1399) ha344 e1 ?_
      obtain ⟨a357, ha357, e⟩ := e
      obtain ⟨ad358, σ359, hMad358, hBad358, hhad358, e⟩ := e
      obtain ⟨v360, e1, e⟩ := e
      refine xw_hv4 (o := l2) (u := ()) (show xm_Imp g Γ 1400 (xi_vir g 4 M_X5_phase 4 4 1403) from xs_invV hG hΓ k_X5_phase rfl (ci := 4) rfl q3313 q3314 q3315 dL_law_1400) (by simp [xm_stk, xv_cat, xc_int, xc_long, xc_float, xc_double, xc_ref]) ha357 (xM_is hhad358) (xM_run hhad358 (fun Q X hQ => K_X5_phase hG hMad358 hBad358 v353 v354 v355 v356 σ359 e1 hQ)) ?_
      refine xw_ist (ls' := [some (va_rf l0), some (va_rf l1), some (va_rf l2), some (va_rf l3), some (va_rf l4), some (.int l5), some (.int v352), some (.int v360.1), none]) (show xm_Imp g Γ 1403 (xi_ist 7 1405) from xs_istore hΓ dL_law_1403 (Nat.le_of_ble_eq_true rfl)) rfl ?_
      refine xw_aldo (x := l2) (show xm_Imp g Γ 1405 (xi_ald 2 1406) from xs_aload_n hΓ dL_law_1405) rfl ?_
      obtain ⟨ad361, σ362, hMad361, hBad361, hhad361, e⟩ := e
      obtain ⟨v363, e1, e⟩ := e
      refine xw_hv0 (o := l2) (u := ()) (show xm_Imp g Γ 1406 (xi_vir g 4 M_X5_thrown 1 0 1409) from xs_invV hG hΓ k_X5_thrown rfl (ci := 4) rfl q2978 q2979 q2980 dL_law_1406) (by simp [xm_stk, xv_cat, xc_int, xc_long, xc_float, xc_double, xc_ref]) ha357 (xM_is hhad361) (xM_run0 hhad361 (fun Q X hQ => K_X5_thrown hG hMad361 hBad361 σ362 (Option.some.inj e1) hQ)) ?_
      refine xw_ild (show xm_Imp g Γ 1409 (xi_ild 6 1411) from xs_iload hΓ dL_law_1409) rfl ?_
      refine xw_ic (show xm_Imp g Γ 1411 (xi_ic (fun x y => x = y) 1416 1414) from xs_icmp_eq hΓ dL_law_1411 (by decide)) (fun c => ?_) (fun c => ?_)
      · rw [if_pos c] at e
        refine xw_ild (show xm_Imp g Γ 1416 (xi_ild 6 1418) from xs_iload hΓ dL_law_1416) rfl ?_
        refine xw_if (show xm_Imp g Γ 1418 (xi_if (fun x => x = 0) 1421 1433) from xs_if_ne hΓ dL_law_1418 (by decide)) (fun c => ?_) (fun c => ?_)
        · rw [if_pos c] at e
          refine xw_aldo (x := l3) (show xm_Imp g Γ 1421 (xi_ald 3 1422) from xs_aload_n hΓ dL_law_1421) rfl ?_
          refine xw_psh (v := (.int (0))) (show xm_Imp g Γ 1422 (xi_psh (.int (0)) 1423) from xs_iconst hΓ dL_law_1422 (by decide)) ?_
          obtain ⟨a364, ha364, e⟩ := e
          obtain ⟨v365, e1, e⟩ := e
          refine xw_hlal (o := l3) (show xm_Imp g Γ 1423 (xi_lal 1424) from xs_lal hG hΓ dL_law_1423) ha364 e1 ?_
          refine xw_ild (show xm_Imp g Γ 1424 (xi_ild 7 1426) from xs_iload hΓ dL_law_1424) rfl ?_
          refine xw_i2l (show xm_Imp g Γ 1426 (xi_i2l 1427) from xs_i2l hΓ dL_law_1426) ?_
          refine xw_lcmp (show xm_Imp g Γ 1427 (xi_lcmp 1428) from xs_lcmp hΓ dL_law_1427) ?_
          refine xw_if (show xm_Imp g Γ 1428 (xi_if (fun x => x = 0) 1433 1431) from xs_if_eq hΓ dL_law_1428 (by decide)) (fun c => ?_) (fun c => ?_)
          · rw [if_pos c] at e
            exact xm_lx (hB_1433 _ _ _ _ e) (And.intro rfl (And.intro rfl (And.intro rfl (And.intro rfl (And.intro rfl (And.intro rfl (trivial)))))))
          · rw [if_neg c] at e
            refine xw_psh (v := (.int (0))) (show xm_Imp g Γ 1431 (xi_psh (.int (0)) 1432) from xs_iconst hΓ dL_law_1431 (by decide)) ?_
            exact xw_iret (show xm_Imp g Γ 1432 (xi_iret .boolean _) from xs_ireturn hΓ rfl dL_law_1432) rfl ⟨_, rfl, e⟩
        · rw [if_neg c] at e
          exact xm_lx (hB_1433 _ _ _ _ e) (And.intro rfl (And.intro rfl (And.intro rfl (And.intro rfl (And.intro rfl (And.intro rfl (trivial)))))))
      · rw [if_neg c] at e
        refine xw_psh (v := (.int (0))) (show xm_Imp g Γ 1414 (xi_psh (.int (0)) 1415) from xs_iconst hΓ dL_law_1414 (by decide)) ?_
        exact xw_iret (show xm_Imp g Γ 1415 (xi_iret .boolean _) from xs_ireturn hΓ rfl dL_law_1415) rfl ⟨_, rfl, e⟩
    have hB_1501 : ∀ (l5 : Int32) (h : xm_H) (bc : Nat) (bs : Nat), B_L_law_1501 g l0 l1 l2 l3 l4 l5 h bc bs k28 Q → xm_W g Γ 1501 [some (va_rf l0), some (va_rf l1), some (va_rf l2), some (va_rf l3), some (va_rf l4), some (.int l5), none, none, none] [] h bc bs := by
      intro l5 h bc bs e
      unfold B_L_law_1501 at e
      refine xw_goto (show xm_Imp g Γ 1501 (xi_goto 2924) from xs_goto hΓ dL_law_1501 (by decide)) ?_
      exact hB_2924 _ _ _ _ e
    have hB_1436 : ∀ (l5 : Int32) (h : xm_H) (bc : Nat) (bs : Nat), B_L_law_1436 g l0 l1 l2 l3 l4 l5 h bc bs k28 Q → xm_W g Γ 1436 [some (va_rf l0), some (va_rf l1), some (va_rf l2), some (va_rf l3), some (va_rf l4), some (.int l5), none, none, none] [] h bc bs := by
      intro l5 h bc bs e
      unfold B_L_law_1436 at e
      refine xw_aldo (x := l1) (show xm_Imp g Γ 1436 (xi_ald 1 1437) from xs_aload_n hΓ dL_law_1436) rfl ?_
      refine xw_aldo (x := l0) (show xm_Imp g Γ 1437 (xi_ald 0 1438) from xs_aload_n hΓ dL_law_1437) rfl ?_
      refine xw_ild (show xm_Imp g Γ 1438 (xi_ild 5 1440) from xs_iload hΓ dL_law_1438) rfl ?_
      refine xw_psh (v := (.int (1))) (show xm_Imp g Γ 1440 (xi_psh (.int (1)) 1441) from xs_iconst hΓ dL_law_1440 (by decide)) ?_
      refine xw_ii (show xm_Imp g Γ 1441 (xi_ii (fun x y => x + y) 1442) from xs_iadd hΓ dL_law_1441) ?_
      obtain ⟨a366, ha366, e⟩ := e
      obtain ⟨v367, e1, e⟩ := e
      refine xw_hial (o := l0) (show xm_Imp g Γ 1442 (xi_ial 1443) from xs_ial hG hΓ dL_law_1442) ha366 e1 ?_
      refine xw_aldo (x := l0) (show xm_Imp g Γ 1443 (xi_ald 0 1444) from xs_aload_n hΓ dL_law_1443) rfl ?_
      refine xw_ild (show xm_Imp g Γ 1444 (xi_ild 5 1446) from xs_iload hΓ dL_law_1444) rfl ?_
      refine xw_psh (v := (.int (2))) (show xm_Imp g Γ 1446 (xi_psh (.int (2)) 1447) from xs_iconst hΓ dL_law_1446 (by decide)) ?_
      refine xw_ii (show xm_Imp g Γ 1447 (xi_ii (fun x y => x + y) 1448) from xs_iadd hΓ dL_law_1447) ?_
      obtain ⟨v368, e1, e⟩ := e
      refine xw_hial (o := l0) (show xm_Imp g Γ 1448 (xi_ial 1449) from xs_ial hG hΓ dL_law_1448) ha366 e1 ?_
      refine xw_aldo (x := l3) (show xm_Imp g Γ 1449 (xi_ald 3 1450) from xs_aload_n hΓ dL_law_1449) rfl ?_
      obtain ⟨m369, m370, ⟨em1, em2⟩, e⟩ := e
      refine xw_tsi4 (show xm_Imp g Γ 1450 (xi_inv g M_X0_against 11 4 1453) from xs_invSW hG hΓ k_X0_against rfl q2016 q2017 dL_law_1450) rfl em1 em2 (K_X0_against hG l1 v367 v368 l3 _ _ _ e) (fun v372 h371 e => ?_)
      refine xw_ist (ls' := [some (va_rf l0), some (va_rf l1), some (va_rf l2), some (va_rf l3), some (va_rf l4), some (.int l5), some (.int v372), none, none]) (show xm_Imp g Γ 1453 (xi_ist 6 1455) from xs_istore hΓ dL_law_1453 (Nat.le_of_ble_eq_true rfl)) rfl ?_
      refine xw_aldo (x := l2) (show xm_Imp g Γ 1455 (xi_ald 2 1456) from xs_aload_n hΓ dL_law_1455) rfl ?_
      refine xw_aldo (x := l0) (show xm_Imp g Γ 1456 (xi_ald 0 1457) from xs_aload_n hΓ dL_law_1456) rfl ?_
      refine xw_ild (show xm_Imp g Γ 1457 (xi_ild 5 1459) from xs_iload hΓ dL_law_1457) rfl ?_
      refine xw_psh (v := (.int (1))) (show xm_Imp g Γ 1459 (xi_psh (.int (1)) 1460) from xs_iconst hΓ dL_law_1459 (by decide)) ?_
      refine xw_ii (show xm_Imp g Γ 1460 (xi_ii (fun x y => x + y) 1461) from xs_iadd hΓ dL_law_1460) ?_
      obtain ⟨v373, e1, e⟩ := e
      refine xw_hial (o := l0) (show xm_Imp g Γ 1461 (xi_ial 1462) from xs_ial hG hΓ dL_law_1461) ha366 e1 ?_
      refine xw_aldo (x := l0) (show xm_Imp g Γ 1462 (xi_ald 0 1463) from xs_aload_n hΓ dL_law_1462) rfl ?_
      refine xw_ild (show xm_Imp g Γ 1463 (xi_ild 5 1465) from xs_iload hΓ dL_law_1463) rfl ?_
      refine xw_psh (v := (.int (2))) (show xm_Imp g Γ 1465 (xi_psh (.int (2)) 1466) from xs_iconst hΓ dL_law_1465 (by decide)) ?_
      refine xw_ii (show xm_Imp g Γ 1466 (xi_ii (fun x y => x + y) 1467) from xs_iadd hΓ dL_law_1466) ?_
      obtain ⟨v374, e1, e⟩ := e
      refine xw_hial (o := l0) (show xm_Imp g Γ 1467 (xi_ial 1468) from xs_ial hG hΓ dL_law_1467) ha366 e1 ?_
      obtain ⟨a375, ha375, e⟩ := e
      obtain ⟨ad376, σ377, hMad376, hBad376, hhad376, e⟩ := e
      obtain ⟨v378, e1, e⟩ := e
      refine xw_hv2 (o := l2) (u := ()) (show xm_Imp g Γ 1468 (xi_vir g 4 M_X5_against 5 2 1471) from xs_invV hG hΓ k_X5_against rfl (ci := 4) rfl q3317 q3318 q3319 dL_law_1468) (by simp [xm_stk, xv_cat, xc_int, xc_long, xc_float, xc_double, xc_ref]) ha375 (xM_is hhad376) (xM_run hhad376 (fun Q X hQ => K_X5_against hG hMad376 hBad376 v373 v374 σ377 e1 hQ)) ?_
      refine xw_ist (ls' := [some (va_rf l0), some (va_rf l1), some (va_rf l2), some (va_rf l3), some (va_rf l4), some (.int l5), some (.int v372), some (.int v378.1), none]) (show xm_Imp g Γ 1471 (xi_ist 7 1473) from xs_istore hΓ dL_law_1471 (Nat.le_of_ble_eq_true rfl)) rfl ?_
      refine xw_aldo (x := l2) (show xm_Imp g Γ 1473 (xi_ald 2 1474) from xs_aload_n hΓ dL_law_1473) rfl ?_
      obtain ⟨ad379, σ380, hMad379, hBad379, hhad379, e⟩ := e
      obtain ⟨v381, e1, e⟩ := e
      refine xw_hv0 (o := l2) (u := ()) (show xm_Imp g Γ 1474 (xi_vir g 4 M_X5_thrown 1 0 1477) from xs_invV hG hΓ k_X5_thrown rfl (ci := 4) rfl q2978 q2979 q2980 dL_law_1474) (by simp [xm_stk, xv_cat, xc_int, xc_long, xc_float, xc_double, xc_ref]) ha375 (xM_is hhad379) (xM_run0 hhad379 (fun Q X hQ => K_X5_thrown hG hMad379 hBad379 σ380 (Option.some.inj e1) hQ)) ?_
      refine xw_ild (show xm_Imp g Γ 1477 (xi_ild 6 1479) from xs_iload hΓ dL_law_1477) rfl ?_
      refine xw_ic (show xm_Imp g Γ 1479 (xi_ic (fun x y => x = y) 1484 1482) from xs_icmp_eq hΓ dL_law_1479 (by decide)) (fun c => ?_) (fun c => ?_)
      · rw [if_pos c] at e
        refine xw_ild (show xm_Imp g Γ 1484 (xi_ild 6 1486) from xs_iload hΓ dL_law_1484) rfl ?_
        refine xw_if (show xm_Imp g Γ 1486 (xi_if (fun x => x = 0) 1489 1501) from xs_if_ne hΓ dL_law_1486 (by decide)) (fun c => ?_) (fun c => ?_)
        · rw [if_pos c] at e
          refine xw_aldo (x := l3) (show xm_Imp g Γ 1489 (xi_ald 3 1490) from xs_aload_n hΓ dL_law_1489) rfl ?_
          refine xw_psh (v := (.int (0))) (show xm_Imp g Γ 1490 (xi_psh (.int (0)) 1491) from xs_iconst hΓ dL_law_1490 (by decide)) ?_
          obtain ⟨a382, ha382, e⟩ := e
          obtain ⟨v383, e1, e⟩ := e
          refine xw_hlal (o := l3) (show xm_Imp g Γ 1491 (xi_lal 1492) from xs_lal hG hΓ dL_law_1491) ha382 e1 ?_
          refine xw_ild (show xm_Imp g Γ 1492 (xi_ild 7 1494) from xs_iload hΓ dL_law_1492) rfl ?_
          refine xw_i2l (show xm_Imp g Γ 1494 (xi_i2l 1495) from xs_i2l hΓ dL_law_1494) ?_
          refine xw_lcmp (show xm_Imp g Γ 1495 (xi_lcmp 1496) from xs_lcmp hΓ dL_law_1495) ?_
          refine xw_if (show xm_Imp g Γ 1496 (xi_if (fun x => x = 0) 1501 1499) from xs_if_eq hΓ dL_law_1496 (by decide)) (fun c => ?_) (fun c => ?_)
          · rw [if_pos c] at e
            exact xm_lx (hB_1501 _ _ _ _ e) (And.intro rfl (And.intro rfl (And.intro rfl (And.intro rfl (And.intro rfl (And.intro rfl (trivial)))))))
          · rw [if_neg c] at e
            refine xw_psh (v := (.int (0))) (show xm_Imp g Γ 1499 (xi_psh (.int (0)) 1500) from xs_iconst hΓ dL_law_1499 (by decide)) ?_
            exact xw_iret (show xm_Imp g Γ 1500 (xi_iret .boolean _) from xs_ireturn hΓ rfl dL_law_1500) rfl ⟨_, rfl, e⟩
        · rw [if_neg c] at e
          exact xm_lx (hB_1501 _ _ _ _ e) (And.intro rfl (And.intro rfl (And.intro rfl (And.intro rfl (And.intro rfl (And.intro rfl (trivial)))))))
      · rw [if_neg c] at e
        refine xw_psh (v := (.int (0))) (show xm_Imp g Γ 1482 (xi_psh (.int (0)) 1483) from xs_iconst hΓ dL_law_1482 (by decide)) ?_
        exact xw_iret (show xm_Imp g Γ 1483 (xi_iret .boolean _) from xs_ireturn hΓ rfl dL_law_1483) rfl ⟨_, rfl, e⟩
    have hB_1569 : ∀ (l5 : Int32) (h : xm_H) (bc : Nat) (bs : Nat), B_L_law_1569 g l0 l1 l2 l3 l4 l5 h bc bs k28 Q → xm_W g Γ 1569 [some (va_rf l0), some (va_rf l1), some (va_rf l2), some (va_rf l3), some (va_rf l4), some (.int l5), none, none, none] [] h bc bs := by
      intro l5 h bc bs e
      unfold B_L_law_1569 at e
      refine xw_goto (show xm_Imp g Γ 1569 (xi_goto 2924) from xs_goto hΓ dL_law_1569 (by decide)) ?_
      exact hB_2924 _ _ _ _ e
    have hB_1504 : ∀ (l5 : Int32) (h : xm_H) (bc : Nat) (bs : Nat), B_L_law_1504 g l0 l1 l2 l3 l4 l5 h bc bs k28 Q → xm_W g Γ 1504 [some (va_rf l0), some (va_rf l1), some (va_rf l2), some (va_rf l3), some (va_rf l4), some (.int l5), none, none, none] [] h bc bs := by
      intro l5 h bc bs e
      unfold B_L_law_1504 at e
      refine xw_aldo (x := l1) (show xm_Imp g Γ 1504 (xi_ald 1 1505) from xs_aload_n hΓ dL_law_1504) rfl ?_
      refine xw_aldo (x := l0) (show xm_Imp g Γ 1505 (xi_ald 0 1506) from xs_aload_n hΓ dL_law_1505) rfl ?_
      refine xw_ild (show xm_Imp g Γ 1506 (xi_ild 5 1508) from xs_iload hΓ dL_law_1506) rfl ?_
      refine xw_psh (v := (.int (1))) (show xm_Imp g Γ 1508 (xi_psh (.int (1)) 1509) from xs_iconst hΓ dL_law_1508 (by decide)) ?_
      refine xw_ii (show xm_Imp g Γ 1509 (xi_ii (fun x y => x + y) 1510) from xs_iadd hΓ dL_law_1509) ?_
      obtain ⟨a384, ha384, e⟩ := e
      obtain ⟨v385, e1, e⟩ := e
      refine xw_hial (o := l0) (show xm_Imp g Γ 1510 (xi_ial 1511) from xs_ial hG hΓ dL_law_1510) ha384 e1 ?_
      refine xw_aldo (x := l0) (show xm_Imp g Γ 1511 (xi_ald 0 1512) from xs_aload_n hΓ dL_law_1511) rfl ?_
      refine xw_ild (show xm_Imp g Γ 1512 (xi_ild 5 1514) from xs_iload hΓ dL_law_1512) rfl ?_
      refine xw_psh (v := (.int (2))) (show xm_Imp g Γ 1514 (xi_psh (.int (2)) 1515) from xs_iconst hΓ dL_law_1514 (by decide)) ?_
      refine xw_ii (show xm_Imp g Γ 1515 (xi_ii (fun x y => x + y) 1516) from xs_iadd hΓ dL_law_1515) ?_
      obtain ⟨v386, e1, e⟩ := e
      refine xw_hial (o := l0) (show xm_Imp g Γ 1516 (xi_ial 1517) from xs_ial hG hΓ dL_law_1516) ha384 e1 ?_
      refine xw_aldo (x := l3) (show xm_Imp g Γ 1517 (xi_ald 3 1518) from xs_aload_n hΓ dL_law_1517) rfl ?_
      obtain ⟨m387, m388, ⟨em1, em2⟩, e⟩ := e
      refine xw_tsi4 (show xm_Imp g Γ 1518 (xi_inv g M_X0_expectation 11 4 1521) from xs_invSW hG hΓ k_X0_expectation rfl q2024 q2025 dL_law_1518) rfl em1 em2 (K_X0_expectation hG l1 v385 v386 l3 _ _ _ e) (fun v390 h389 e => ?_)
      refine xw_ist (ls' := [some (va_rf l0), some (va_rf l1), some (va_rf l2), some (va_rf l3), some (va_rf l4), some (.int l5), some (.int v390), none, none]) (show xm_Imp g Γ 1521 (xi_ist 6 1523) from xs_istore hΓ dL_law_1521 (Nat.le_of_ble_eq_true rfl)) rfl ?_
      refine xw_aldo (x := l2) (show xm_Imp g Γ 1523 (xi_ald 2 1524) from xs_aload_n hΓ dL_law_1523) rfl ?_
      refine xw_aldo (x := l0) (show xm_Imp g Γ 1524 (xi_ald 0 1525) from xs_aload_n hΓ dL_law_1524) rfl ?_
      refine xw_ild (show xm_Imp g Γ 1525 (xi_ild 5 1527) from xs_iload hΓ dL_law_1525) rfl ?_
      refine xw_psh (v := (.int (1))) (show xm_Imp g Γ 1527 (xi_psh (.int (1)) 1528) from xs_iconst hΓ dL_law_1527 (by decide)) ?_
      refine xw_ii (show xm_Imp g Γ 1528 (xi_ii (fun x y => x + y) 1529) from xs_iadd hΓ dL_law_1528) ?_
      obtain ⟨v391, e1, e⟩ := e
      refine xw_hial (o := l0) (show xm_Imp g Γ 1529 (xi_ial 1530) from xs_ial hG hΓ dL_law_1529) ha384 e1 ?_
      refine xw_aldo (x := l0) (show xm_Imp g Γ 1530 (xi_ald 0 1531) from xs_aload_n hΓ dL_law_1530) rfl ?_
      refine xw_ild (show xm_Imp g Γ 1531 (xi_ild 5 1533) from xs_iload hΓ dL_law_1531) rfl ?_
      refine xw_psh (v := (.int (2))) (show xm_Imp g Γ 1533 (xi_psh (.int (2)) 1534) from xs_iconst hΓ dL_law_1533 (by decide)) ?_
      refine xw_ii (show xm_Imp g Γ 1534 (xi_ii (fun x y => x + y) 1535) from xs_iadd hΓ dL_law_1534) ?_
      obtain ⟨v392, e1, e⟩ := e
      refine xw_hial (o := l0) (show xm_Imp g Γ 1535 (xi_ial 1536) from xs_ial hG hΓ dL_law_1535) ha384 e1 ?_
      obtain ⟨a393, ha393, e⟩ := e
      obtain ⟨ad394, σ395, hMad394, hBad394, hhad394, e⟩ := e
      obtain ⟨v396, e1, e⟩ := e
      refine xw_hv2 (o := l2) (u := ()) (show xm_Imp g Γ 1536 (xi_vir g 4 M_X5_expectation 7 2 1539) from xs_invV hG hΓ k_X5_expectation rfl (ci := 4) rfl q3321 q3322 q3323 dL_law_1536) (by simp [xm_stk, xv_cat, xc_int, xc_long, xc_float, xc_double, xc_ref]) ha393 (xM_is hhad394) (xM_run hhad394 (fun Q X hQ => K_X5_expectation hG hMad394 hBad394 v391 v392 σ395 e1 hQ)) ?_
      refine xw_ist (ls' := [some (va_rf l0), some (va_rf l1), some (va_rf l2), some (va_rf l3), some (va_rf l4), some (.int l5), some (.int v390), some (.int v396.1), none]) (show xm_Imp g Γ 1539 (xi_ist 7 1541) from xs_istore hΓ dL_law_1539 (Nat.le_of_ble_eq_true rfl)) rfl ?_
      refine xw_aldo (x := l2) (show xm_Imp g Γ 1541 (xi_ald 2 1542) from xs_aload_n hΓ dL_law_1541) rfl ?_
      obtain ⟨ad397, σ398, hMad397, hBad397, hhad397, e⟩ := e
      obtain ⟨v399, e1, e⟩ := e
      refine xw_hv0 (o := l2) (u := ()) (show xm_Imp g Γ 1542 (xi_vir g 4 M_X5_thrown 1 0 1545) from xs_invV hG hΓ k_X5_thrown rfl (ci := 4) rfl q2978 q2979 q2980 dL_law_1542) (by simp [xm_stk, xv_cat, xc_int, xc_long, xc_float, xc_double, xc_ref]) ha393 (xM_is hhad397) (xM_run0 hhad397 (fun Q X hQ => K_X5_thrown hG hMad397 hBad397 σ398 (Option.some.inj e1) hQ)) ?_
      refine xw_ild (show xm_Imp g Γ 1545 (xi_ild 6 1547) from xs_iload hΓ dL_law_1545) rfl ?_
      refine xw_ic (show xm_Imp g Γ 1547 (xi_ic (fun x y => x = y) 1552 1550) from xs_icmp_eq hΓ dL_law_1547 (by decide)) (fun c => ?_) (fun c => ?_)
      · rw [if_pos c] at e
        refine xw_ild (show xm_Imp g Γ 1552 (xi_ild 6 1554) from xs_iload hΓ dL_law_1552) rfl ?_
        refine xw_if (show xm_Imp g Γ 1554 (xi_if (fun x => x = 0) 1557 1569) from xs_if_ne hΓ dL_law_1554 (by decide)) (fun c => ?_) (fun c => ?_)
        · rw [if_pos c] at e
          refine xw_aldo (x := l3) (show xm_Imp g Γ 1557 (xi_ald 3 1558) from xs_aload_n hΓ dL_law_1557) rfl ?_
          refine xw_psh (v := (.int (0))) (show xm_Imp g Γ 1558 (xi_psh (.int (0)) 1559) from xs_iconst hΓ dL_law_1558 (by decide)) ?_
          obtain ⟨a400, ha400, e⟩ := e
          obtain ⟨v401, e1, e⟩ := e
          refine xw_hlal (o := l3) (show xm_Imp g Γ 1559 (xi_lal 1560) from xs_lal hG hΓ dL_law_1559) ha400 e1 ?_
          refine xw_ild (show xm_Imp g Γ 1560 (xi_ild 7 1562) from xs_iload hΓ dL_law_1560) rfl ?_
          refine xw_i2l (show xm_Imp g Γ 1562 (xi_i2l 1563) from xs_i2l hΓ dL_law_1562) ?_
          refine xw_lcmp (show xm_Imp g Γ 1563 (xi_lcmp 1564) from xs_lcmp hΓ dL_law_1563) ?_
          refine xw_if (show xm_Imp g Γ 1564 (xi_if (fun x => x = 0) 1569 1567) from xs_if_eq hΓ dL_law_1564 (by decide)) (fun c => ?_) (fun c => ?_)
          · rw [if_pos c] at e
            exact xm_lx (hB_1569 _ _ _ _ e) (And.intro rfl (And.intro rfl (And.intro rfl (And.intro rfl (And.intro rfl (And.intro rfl (trivial)))))))
          · rw [if_neg c] at e
            refine xw_psh (v := (.int (0))) (show xm_Imp g Γ 1567 (xi_psh (.int (0)) 1568) from xs_iconst hΓ dL_law_1567 (by decide)) ?_
            exact xw_iret (show xm_Imp g Γ 1568 (xi_iret .boolean _) from xs_ireturn hΓ rfl dL_law_1568) rfl ⟨_, rfl, e⟩
        · rw [if_neg c] at e
          exact xm_lx (hB_1569 _ _ _ _ e) (And.intro rfl (And.intro rfl (And.intro rfl (And.intro rfl (And.intro rfl (And.intro rfl (trivial)))))))
      · rw [if_neg c] at e
        refine xw_psh (v := (.int (0))) (show xm_Imp g Γ 1550 (xi_psh (.int (0)) 1551) from xs_iconst hΓ dL_law_1550 (by decide)) ?_
        exact xw_iret (show xm_Imp g Γ 1551 (xi_iret .boolean _) from xs_ireturn hΓ rfl dL_law_1551) rfl ⟨_, rfl, e⟩
    have hB_1637 : ∀ (l5 : Int32) (h : xm_H) (bc : Nat) (bs : Nat), B_L_law_1637 g l0 l1 l2 l3 l4 l5 h bc bs k28 Q → xm_W g Γ 1637 [some (va_rf l0), some (va_rf l1), some (va_rf l2), some (va_rf l3), some (va_rf l4), some (.int l5), none, none, none] [] h bc bs := by
      intro l5 h bc bs e
      unfold B_L_law_1637 at e
      refine xw_goto (show xm_Imp g Γ 1637 (xi_goto 2924) from xs_goto hΓ dL_law_1637 (by decide)) ?_
      exact hB_2924 _ _ _ _ e
    have hB_1572 : ∀ (l5 : Int32) (h : xm_H) (bc : Nat) (bs : Nat), B_L_law_1572 g l0 l1 l2 l3 l4 l5 h bc bs k28 Q → xm_W g Γ 1572 [some (va_rf l0), some (va_rf l1), some (va_rf l2), some (va_rf l3), some (va_rf l4), some (.int l5), none, none, none] [] h bc bs := by
      intro l5 h bc bs e
      unfold B_L_law_1572 at e
      refine xw_aldo (x := l1) (show xm_Imp g Γ 1572 (xi_ald 1 1573) from xs_aload_n hΓ dL_law_1572) rfl ?_
      refine xw_aldo (x := l0) (show xm_Imp g Γ 1573 (xi_ald 0 1574) from xs_aload_n hΓ dL_law_1573) rfl ?_
      refine xw_ild (show xm_Imp g Γ 1574 (xi_ild 5 1576) from xs_iload hΓ dL_law_1574) rfl ?_
      refine xw_psh (v := (.int (1))) (show xm_Imp g Γ 1576 (xi_psh (.int (1)) 1577) from xs_iconst hΓ dL_law_1576 (by decide)) ?_
      refine xw_ii (show xm_Imp g Γ 1577 (xi_ii (fun x y => x + y) 1578) from xs_iadd hΓ dL_law_1577) ?_
      obtain ⟨a402, ha402, e⟩ := e
      obtain ⟨v403, e1, e⟩ := e
      refine xw_hial (o := l0) (show xm_Imp g Γ 1578 (xi_ial 1579) from xs_ial hG hΓ dL_law_1578) ha402 e1 ?_
      refine xw_aldo (x := l0) (show xm_Imp g Γ 1579 (xi_ald 0 1580) from xs_aload_n hΓ dL_law_1579) rfl ?_
      refine xw_ild (show xm_Imp g Γ 1580 (xi_ild 5 1582) from xs_iload hΓ dL_law_1580) rfl ?_
      refine xw_psh (v := (.int (2))) (show xm_Imp g Γ 1582 (xi_psh (.int (2)) 1583) from xs_iconst hΓ dL_law_1582 (by decide)) ?_
      refine xw_ii (show xm_Imp g Γ 1583 (xi_ii (fun x y => x + y) 1584) from xs_iadd hΓ dL_law_1583) ?_
      obtain ⟨v404, e1, e⟩ := e
      refine xw_hial (o := l0) (show xm_Imp g Γ 1584 (xi_ial 1585) from xs_ial hG hΓ dL_law_1584) ha402 e1 ?_
      refine xw_aldo (x := l3) (show xm_Imp g Γ 1585 (xi_ald 3 1586) from xs_aload_n hΓ dL_law_1585) rfl ?_
      obtain ⟨m405, m406, ⟨em1, em2⟩, e⟩ := e
      refine xw_tsi4 (show xm_Imp g Γ 1586 (xi_inv g M_X0_decompose 11 4 1589) from xs_invSW hG hΓ k_X0_decompose rfl q2032 q2033 dL_law_1586) rfl em1 em2 (K_X0_decompose hG l1 v403 v404 l3 _ _ _ e) (fun v408 h407 e => ?_)
      refine xw_ist (ls' := [some (va_rf l0), some (va_rf l1), some (va_rf l2), some (va_rf l3), some (va_rf l4), some (.int l5), some (.int v408), none, none]) (show xm_Imp g Γ 1589 (xi_ist 6 1591) from xs_istore hΓ dL_law_1589 (Nat.le_of_ble_eq_true rfl)) rfl ?_
      refine xw_aldo (x := l2) (show xm_Imp g Γ 1591 (xi_ald 2 1592) from xs_aload_n hΓ dL_law_1591) rfl ?_
      refine xw_aldo (x := l0) (show xm_Imp g Γ 1592 (xi_ald 0 1593) from xs_aload_n hΓ dL_law_1592) rfl ?_
      refine xw_ild (show xm_Imp g Γ 1593 (xi_ild 5 1595) from xs_iload hΓ dL_law_1593) rfl ?_
      refine xw_psh (v := (.int (1))) (show xm_Imp g Γ 1595 (xi_psh (.int (1)) 1596) from xs_iconst hΓ dL_law_1595 (by decide)) ?_
      refine xw_ii (show xm_Imp g Γ 1596 (xi_ii (fun x y => x + y) 1597) from xs_iadd hΓ dL_law_1596) ?_
      obtain ⟨v409, e1, e⟩ := e
      refine xw_hial (o := l0) (show xm_Imp g Γ 1597 (xi_ial 1598) from xs_ial hG hΓ dL_law_1597) ha402 e1 ?_
      refine xw_aldo (x := l0) (show xm_Imp g Γ 1598 (xi_ald 0 1599) from xs_aload_n hΓ dL_law_1598) rfl ?_
      refine xw_ild (show xm_Imp g Γ 1599 (xi_ild 5 1601) from xs_iload hΓ dL_law_1599) rfl ?_
      refine xw_psh (v := (.int (2))) (show xm_Imp g Γ 1601 (xi_psh (.int (2)) 1602) from xs_iconst hΓ dL_law_1601 (by decide)) ?_
      refine xw_ii (show xm_Imp g Γ 1602 (xi_ii (fun x y => x + y) 1603) from xs_iadd hΓ dL_law_1602) ?_
      obtain ⟨v410, e1, e⟩ := e
      refine xw_hial (o := l0) (show xm_Imp g Γ 1603 (xi_ial 1604) from xs_ial hG hΓ dL_law_1603) ha402 e1 ?_
      obtain ⟨a411, ha411, e⟩ := e
      obtain ⟨ad412, σ413, hMad412, hBad412, hhad412, e⟩ := e
      obtain ⟨v414, e1, e⟩ := e
      refine xw_hv2 (o := l2) (u := ()) (show xm_Imp g Γ 1604 (xi_vir g 4 M_X5_decompose 7 2 1607) from xs_invV hG hΓ k_X5_decompose rfl (ci := 4) rfl q3325 q3326 q3327 dL_law_1604) (by simp [xm_stk, xv_cat, xc_int, xc_long, xc_float, xc_double, xc_ref]) ha411 (xM_is hhad412) (xM_run hhad412 (fun Q X hQ => K_X5_decompose hG hMad412 hBad412 v409 v410 σ413 e1 hQ)) ?_
      refine xw_ist (ls' := [some (va_rf l0), some (va_rf l1), some (va_rf l2), some (va_rf l3), some (va_rf l4), some (.int l5), some (.int v408), some (.int v414.1), none]) (show xm_Imp g Γ 1607 (xi_ist 7 1609) from xs_istore hΓ dL_law_1607 (Nat.le_of_ble_eq_true rfl)) rfl ?_
      refine xw_aldo (x := l2) (show xm_Imp g Γ 1609 (xi_ald 2 1610) from xs_aload_n hΓ dL_law_1609) rfl ?_
      obtain ⟨ad415, σ416, hMad415, hBad415, hhad415, e⟩ := e
      obtain ⟨v417, e1, e⟩ := e
      refine xw_hv0 (o := l2) (u := ()) (show xm_Imp g Γ 1610 (xi_vir g 4 M_X5_thrown 1 0 1613) from xs_invV hG hΓ k_X5_thrown rfl (ci := 4) rfl q2978 q2979 q2980 dL_law_1610) (by simp [xm_stk, xv_cat, xc_int, xc_long, xc_float, xc_double, xc_ref]) ha411 (xM_is hhad415) (xM_run0 hhad415 (fun Q X hQ => K_X5_thrown hG hMad415 hBad415 σ416 (Option.some.inj e1) hQ)) ?_
      refine xw_ild (show xm_Imp g Γ 1613 (xi_ild 6 1615) from xs_iload hΓ dL_law_1613) rfl ?_
      refine xw_ic (show xm_Imp g Γ 1615 (xi_ic (fun x y => x = y) 1620 1618) from xs_icmp_eq hΓ dL_law_1615 (by decide)) (fun c => ?_) (fun c => ?_)
      · rw [if_pos c] at e
        refine xw_ild (show xm_Imp g Γ 1620 (xi_ild 6 1622) from xs_iload hΓ dL_law_1620) rfl ?_
        refine xw_if (show xm_Imp g Γ 1622 (xi_if (fun x => x = 0) 1625 1637) from xs_if_ne hΓ dL_law_1622 (by decide)) (fun c => ?_) (fun c => ?_)
        · rw [if_pos c] at e
          refine xw_aldo (x := l3) (show xm_Imp g Γ 1625 (xi_ald 3 1626) from xs_aload_n hΓ dL_law_1625) rfl ?_
          refine xw_psh (v := (.int (0))) (show xm_Imp g Γ 1626 (xi_psh (.int (0)) 1627) from xs_iconst hΓ dL_law_1626 (by decide)) ?_
          obtain ⟨a418, ha418, e⟩ := e
          obtain ⟨v419, e1, e⟩ := e
          refine xw_hlal (o := l3) (show xm_Imp g Γ 1627 (xi_lal 1628) from xs_lal hG hΓ dL_law_1627) ha418 e1 ?_
          refine xw_ild (show xm_Imp g Γ 1628 (xi_ild 7 1630) from xs_iload hΓ dL_law_1628) rfl ?_
          refine xw_i2l (show xm_Imp g Γ 1630 (xi_i2l 1631) from xs_i2l hΓ dL_law_1630) ?_
          refine xw_lcmp (show xm_Imp g Γ 1631 (xi_lcmp 1632) from xs_lcmp hΓ dL_law_1631) ?_
          refine xw_if (show xm_Imp g Γ 1632 (xi_if (fun x => x = 0) 1637 1635) from xs_if_eq hΓ dL_law_1632 (by decide)) (fun c => ?_) (fun c => ?_)
          · rw [if_pos c] at e
            exact xm_lx (hB_1637 _ _ _ _ e) (And.intro rfl (And.intro rfl (And.intro rfl (And.intro rfl (And.intro rfl (And.intro rfl (trivial)))))))
          · rw [if_neg c] at e
            refine xw_psh (v := (.int (0))) (show xm_Imp g Γ 1635 (xi_psh (.int (0)) 1636) from xs_iconst hΓ dL_law_1635 (by decide)) ?_
            exact xw_iret (show xm_Imp g Γ 1636 (xi_iret .boolean _) from xs_ireturn hΓ rfl dL_law_1636) rfl ⟨_, rfl, e⟩
        · rw [if_neg c] at e
          exact xm_lx (hB_1637 _ _ _ _ e) (And.intro rfl (And.intro rfl (And.intro rfl (And.intro rfl (And.intro rfl (And.intro rfl (trivial)))))))
      · rw [if_neg c] at e
        refine xw_psh (v := (.int (0))) (show xm_Imp g Γ 1618 (xi_psh (.int (0)) 1619) from xs_iconst hΓ dL_law_1618 (by decide)) ?_
        exact xw_iret (show xm_Imp g Γ 1619 (xi_iret .boolean _) from xs_ireturn hΓ rfl dL_law_1619) rfl ⟨_, rfl, e⟩
    have hB_1705 : ∀ (l5 : Int32) (h : xm_H) (bc : Nat) (bs : Nat), B_L_law_1705 g l0 l1 l2 l3 l4 l5 h bc bs k28 Q → xm_W g Γ 1705 [some (va_rf l0), some (va_rf l1), some (va_rf l2), some (va_rf l3), some (va_rf l4), some (.int l5), none, none, none] [] h bc bs := by
      intro l5 h bc bs e
      unfold B_L_law_1705 at e
      refine xw_goto (show xm_Imp g Γ 1705 (xi_goto 2924) from xs_goto hΓ dL_law_1705 (by decide)) ?_
      exact hB_2924 _ _ _ _ e
    have hB_1640 : ∀ (l5 : Int32) (h : xm_H) (bc : Nat) (bs : Nat), B_L_law_1640 g l0 l1 l2 l3 l4 l5 h bc bs k28 Q → xm_W g Γ 1640 [some (va_rf l0), some (va_rf l1), some (va_rf l2), some (va_rf l3), some (va_rf l4), some (.int l5), none, none, none] [] h bc bs := by
      intro l5 h bc bs e
      unfold B_L_law_1640 at e
      refine xw_aldo (x := l1) (show xm_Imp g Γ 1640 (xi_ald 1 1641) from xs_aload_n hΓ dL_law_1640) rfl ?_
      refine xw_aldo (x := l0) (show xm_Imp g Γ 1641 (xi_ald 0 1642) from xs_aload_n hΓ dL_law_1641) rfl ?_
      refine xw_ild (show xm_Imp g Γ 1642 (xi_ild 5 1644) from xs_iload hΓ dL_law_1642) rfl ?_
      refine xw_psh (v := (.int (1))) (show xm_Imp g Γ 1644 (xi_psh (.int (1)) 1645) from xs_iconst hΓ dL_law_1644 (by decide)) ?_
      refine xw_ii (show xm_Imp g Γ 1645 (xi_ii (fun x y => x + y) 1646) from xs_iadd hΓ dL_law_1645) ?_
      obtain ⟨a420, ha420, e⟩ := e
      obtain ⟨v421, e1, e⟩ := e
      refine xw_hial (o := l0) (show xm_Imp g Γ 1646 (xi_ial 1647) from xs_ial hG hΓ dL_law_1646) ha420 e1 ?_
      refine xw_aldo (x := l0) (show xm_Imp g Γ 1647 (xi_ald 0 1648) from xs_aload_n hΓ dL_law_1647) rfl ?_
      refine xw_ild (show xm_Imp g Γ 1648 (xi_ild 5 1650) from xs_iload hΓ dL_law_1648) rfl ?_
      refine xw_psh (v := (.int (2))) (show xm_Imp g Γ 1650 (xi_psh (.int (2)) 1651) from xs_iconst hΓ dL_law_1650 (by decide)) ?_
      refine xw_ii (show xm_Imp g Γ 1651 (xi_ii (fun x y => x + y) 1652) from xs_iadd hΓ dL_law_1651) ?_
      obtain ⟨v422, e1, e⟩ := e
      refine xw_hial (o := l0) (show xm_Imp g Γ 1652 (xi_ial 1653) from xs_ial hG hΓ dL_law_1652) ha420 e1 ?_
      refine xw_aldo (x := l3) (show xm_Imp g Γ 1653 (xi_ald 3 1654) from xs_aload_n hΓ dL_law_1653) rfl ?_
      obtain ⟨m423, m424, ⟨em1, em2⟩, e⟩ := e
      refine xw_tsi4 (show xm_Imp g Γ 1654 (xi_inv g M_X0_element 11 4 1657) from xs_invSW hG hΓ k_X0_element rfl q2040 q2041 dL_law_1654) rfl em1 em2 (K_X0_element hG l1 v421 v422 l3 _ _ _ e) (fun v426 h425 e => ?_)
      refine xw_ist (ls' := [some (va_rf l0), some (va_rf l1), some (va_rf l2), some (va_rf l3), some (va_rf l4), some (.int l5), some (.int v426), none, none]) (show xm_Imp g Γ 1657 (xi_ist 6 1659) from xs_istore hΓ dL_law_1657 (Nat.le_of_ble_eq_true rfl)) rfl ?_
      refine xw_aldo (x := l2) (show xm_Imp g Γ 1659 (xi_ald 2 1660) from xs_aload_n hΓ dL_law_1659) rfl ?_
      refine xw_aldo (x := l0) (show xm_Imp g Γ 1660 (xi_ald 0 1661) from xs_aload_n hΓ dL_law_1660) rfl ?_
      refine xw_ild (show xm_Imp g Γ 1661 (xi_ild 5 1663) from xs_iload hΓ dL_law_1661) rfl ?_
      refine xw_psh (v := (.int (1))) (show xm_Imp g Γ 1663 (xi_psh (.int (1)) 1664) from xs_iconst hΓ dL_law_1663 (by decide)) ?_
      refine xw_ii (show xm_Imp g Γ 1664 (xi_ii (fun x y => x + y) 1665) from xs_iadd hΓ dL_law_1664) ?_
      obtain ⟨v427, e1, e⟩ := e
      refine xw_hial (o := l0) (show xm_Imp g Γ 1665 (xi_ial 1666) from xs_ial hG hΓ dL_law_1665) ha420 e1 ?_
      refine xw_aldo (x := l0) (show xm_Imp g Γ 1666 (xi_ald 0 1667) from xs_aload_n hΓ dL_law_1666) rfl ?_
      refine xw_ild (show xm_Imp g Γ 1667 (xi_ild 5 1669) from xs_iload hΓ dL_law_1667) rfl ?_
      refine xw_psh (v := (.int (2))) (show xm_Imp g Γ 1669 (xi_psh (.int (2)) 1670) from xs_iconst hΓ dL_law_1669 (by decide)) ?_
      refine xw_ii (show xm_Imp g Γ 1670 (xi_ii (fun x y => x + y) 1671) from xs_iadd hΓ dL_law_1670) ?_
      obtain ⟨v428, e1, e⟩ := e
      refine xw_hial (o := l0) (show xm_Imp g Γ 1671 (xi_ial 1672) from xs_ial hG hΓ dL_law_1671) ha420 e1 ?_
      obtain ⟨a429, ha429, e⟩ := e
      obtain ⟨ad430, σ431, hMad430, hBad430, hhad430, e⟩ := e
      obtain ⟨v432, e1, e⟩ := e
      refine xw_hv2 (o := l2) (u := ()) (show xm_Imp g Γ 1672 (xi_vir g 4 M_X5_element 6 2 1675) from xs_invV hG hΓ k_X5_element rfl (ci := 4) rfl q3329 q3330 q3331 dL_law_1672) (by simp [xm_stk, xv_cat, xc_int, xc_long, xc_float, xc_double, xc_ref]) ha429 (xM_is hhad430) (xM_run hhad430 (fun Q X hQ => K_X5_element hG hMad430 hBad430 v427 v428 σ431 e1 hQ)) ?_
      refine xw_ist (ls' := [some (va_rf l0), some (va_rf l1), some (va_rf l2), some (va_rf l3), some (va_rf l4), some (.int l5), some (.int v426), some (.int v432.1), none]) (show xm_Imp g Γ 1675 (xi_ist 7 1677) from xs_istore hΓ dL_law_1675 (Nat.le_of_ble_eq_true rfl)) rfl ?_
      refine xw_aldo (x := l2) (show xm_Imp g Γ 1677 (xi_ald 2 1678) from xs_aload_n hΓ dL_law_1677) rfl ?_
      obtain ⟨ad433, σ434, hMad433, hBad433, hhad433, e⟩ := e
      obtain ⟨v435, e1, e⟩ := e
      refine xw_hv0 (o := l2) (u := ()) (show xm_Imp g Γ 1678 (xi_vir g 4 M_X5_thrown 1 0 1681) from xs_invV hG hΓ k_X5_thrown rfl (ci := 4) rfl q2978 q2979 q2980 dL_law_1678) (by simp [xm_stk, xv_cat, xc_int, xc_long, xc_float, xc_double, xc_ref]) ha429 (xM_is hhad433) (xM_run0 hhad433 (fun Q X hQ => K_X5_thrown hG hMad433 hBad433 σ434 (Option.some.inj e1) hQ)) ?_
      refine xw_ild (show xm_Imp g Γ 1681 (xi_ild 6 1683) from xs_iload hΓ dL_law_1681) rfl ?_
      refine xw_ic (show xm_Imp g Γ 1683 (xi_ic (fun x y => x = y) 1688 1686) from xs_icmp_eq hΓ dL_law_1683 (by decide)) (fun c => ?_) (fun c => ?_)
      · rw [if_pos c] at e
        refine xw_ild (show xm_Imp g Γ 1688 (xi_ild 6 1690) from xs_iload hΓ dL_law_1688) rfl ?_
        refine xw_if (show xm_Imp g Γ 1690 (xi_if (fun x => x = 0) 1693 1705) from xs_if_ne hΓ dL_law_1690 (by decide)) (fun c => ?_) (fun c => ?_)
        · rw [if_pos c] at e
          refine xw_aldo (x := l3) (show xm_Imp g Γ 1693 (xi_ald 3 1694) from xs_aload_n hΓ dL_law_1693) rfl ?_
          refine xw_psh (v := (.int (0))) (show xm_Imp g Γ 1694 (xi_psh (.int (0)) 1695) from xs_iconst hΓ dL_law_1694 (by decide)) ?_
          obtain ⟨a436, ha436, e⟩ := e
          obtain ⟨v437, e1, e⟩ := e
          refine xw_hlal (o := l3) (show xm_Imp g Γ 1695 (xi_lal 1696) from xs_lal hG hΓ dL_law_1695) ha436 e1 ?_
          refine xw_ild (show xm_Imp g Γ 1696 (xi_ild 7 1698) from xs_iload hΓ dL_law_1696) rfl ?_
          refine xw_i2l (show xm_Imp g Γ 1698 (xi_i2l 1699) from xs_i2l hΓ dL_law_1698) ?_
          refine xw_lcmp (show xm_Imp g Γ 1699 (xi_lcmp 1700) from xs_lcmp hΓ dL_law_1699) ?_
          refine xw_if (show xm_Imp g Γ 1700 (xi_if (fun x => x = 0) 1705 1703) from xs_if_eq hΓ dL_law_1700 (by decide)) (fun c => ?_) (fun c => ?_)
          · rw [if_pos c] at e
            exact xm_lx (hB_1705 _ _ _ _ e) (And.intro rfl (And.intro rfl (And.intro rfl (And.intro rfl (And.intro rfl (And.intro rfl (trivial)))))))
          · rw [if_neg c] at e
            refine xw_psh (v := (.int (0))) (show xm_Imp g Γ 1703 (xi_psh (.int (0)) 1704) from xs_iconst hΓ dL_law_1703 (by decide)) ?_
            exact xw_iret (show xm_Imp g Γ 1704 (xi_iret .boolean _) from xs_ireturn hΓ rfl dL_law_1704) rfl ⟨_, rfl, e⟩
        · rw [if_neg c] at e
          exact xm_lx (hB_1705 _ _ _ _ e) (And.intro rfl (And.intro rfl (And.intro rfl (And.intro rfl (And.intro rfl (And.intro rfl (trivial)))))))
      · rw [if_neg c] at e
        refine xw_psh (v := (.int (0))) (show xm_Imp g Γ 1686 (xi_psh (.int (0)) 1687) from xs_iconst hΓ dL_law_1686 (by decide)) ?_
        exact xw_iret (show xm_Imp g Γ 1687 (xi_iret .boolean _) from xs_ireturn hΓ rfl dL_law_1687) rfl ⟨_, rfl, e⟩
    have hB_1708 : ∀ (l5 : Int32) (h : xm_H) (bc : Nat) (bs : Nat), B_L_law_1708 g l0 l1 l2 l3 l4 l5 h bc bs k28 Q → xm_W g Γ 1708 [some (va_rf l0), some (va_rf l1), some (va_rf l2), some (va_rf l3), some (va_rf l4), some (.int l5), none, none, none] [] h bc bs := by
      intro l5 h bc bs e
      unfold B_L_law_1708 at e
      refine xw_aldo (x := l1) (show xm_Imp g Γ 1708 (xi_ald 1 1709) from xs_aload_n hΓ dL_law_1708) rfl ?_
      refine xw_aldo (x := l0) (show xm_Imp g Γ 1709 (xi_ald 0 1710) from xs_aload_n hΓ dL_law_1709) rfl ?_
      refine xw_ild (show xm_Imp g Γ 1710 (xi_ild 5 1712) from xs_iload hΓ dL_law_1710) rfl ?_
      refine xw_psh (v := (.int (1))) (show xm_Imp g Γ 1712 (xi_psh (.int (1)) 1713) from xs_iconst hΓ dL_law_1712 (by decide)) ?_
      refine xw_ii (show xm_Imp g Γ 1713 (xi_ii (fun x y => x + y) 1714) from xs_iadd hΓ dL_law_1713) ?_
      obtain ⟨a438, ha438, e⟩ := e
      obtain ⟨v439, e1, e⟩ := e
      refine xw_hial (o := l0) (show xm_Imp g Γ 1714 (xi_ial 1715) from xs_ial hG hΓ dL_law_1714) ha438 e1 ?_
      obtain ⟨a440, ha440, e⟩ := e
      obtain ⟨_, e0, e⟩ := e
      obtain ⟨m441, m442, ⟨em1, em2⟩, e⟩ := e
      refine xw_tvi1 (o := l1) (show xm_Imp g Γ 1715 (xi_vir g 0 M_X1_weights 10 1 1718) from xs_invV hG hΓ k_X1_weights rfl (ci := 0) rfl q1633 q1634 q1635 dL_law_1715) (by simp [xm_stk, xv_cat, xc_int, xc_long, xc_float, xc_double, xc_ref]) ha440 e0 em1 em2 (K_X1_weights hG a440 v439 _ _ _ e) (fun v444 h443 e => ?_)
      refine xw_aldo (x := l2) (show xm_Imp g Γ 1718 (xi_ald 2 1719) from xs_aload_n hΓ dL_law_1718) rfl ?_
      refine xw_aldo (x := l0) (show xm_Imp g Γ 1719 (xi_ald 0 1720) from xs_aload_n hΓ dL_law_1719) rfl ?_
      refine xw_ild (show xm_Imp g Γ 1720 (xi_ild 5 1722) from xs_iload hΓ dL_law_1720) rfl ?_
      refine xw_psh (v := (.int (1))) (show xm_Imp g Γ 1722 (xi_psh (.int (1)) 1723) from xs_iconst hΓ dL_law_1722 (by decide)) ?_
      refine xw_ii (show xm_Imp g Γ 1723 (xi_ii (fun x y => x + y) 1724) from xs_iadd hΓ dL_law_1723) ?_
      obtain ⟨v445, e1, e⟩ := e
      refine xw_hial (o := l0) (show xm_Imp g Γ 1724 (xi_ial 1725) from xs_ial hG hΓ dL_law_1724) ha438 e1 ?_
      obtain ⟨a446, ha446, e⟩ := e
      obtain ⟨ad447, σ448, hMad447, hBad447, hhad447, e⟩ := e
      obtain ⟨v449, e1, e⟩ := e
      refine xw_hv1 (o := l2) (u := ()) (show xm_Imp g Γ 1725 (xi_vir g 4 M_X5_weights 6 1 1728) from xs_invV hG hΓ k_X5_weights rfl (ci := 4) rfl q3341 q3342 q3343 dL_law_1725) (by simp [xm_stk, xv_cat, xc_int, xc_long, xc_float, xc_double, xc_ref]) ha446 (xM_is hhad447) (xM_run hhad447 (fun Q X hQ => K_X5_weights hG hMad447 hBad447 v445 σ448 e1 hQ)) ?_
      refine xw_ic (show xm_Imp g Γ 1728 (xi_ic (fun x y => x = y) 2924 1731) from xs_icmp_eq hΓ dL_law_1728 (by decide)) (fun c => ?_) (fun c => ?_)
      · rw [if_pos c] at e
        exact hB_2924 _ _ _ _ e
      · rw [if_neg c] at e
        refine xw_psh (v := (.int (0))) (show xm_Imp g Γ 1731 (xi_psh (.int (0)) 1732) from xs_iconst hΓ dL_law_1731 (by decide)) ?_
        exact xw_iret (show xm_Imp g Γ 1732 (xi_iret .boolean _) from xs_ireturn hΓ rfl dL_law_1732) rfl ⟨_, rfl, e⟩
    have hB_1786 : ∀ (l5 : Int32) (h : xm_H) (bc : Nat) (bs : Nat), B_L_law_1786 g l0 l1 l2 l3 l4 l5 h bc bs k28 Q → xm_W g Γ 1786 [some (va_rf l0), some (va_rf l1), some (va_rf l2), some (va_rf l3), some (va_rf l4), some (.int l5), none, none, none] [] h bc bs := by
      intro l5 h bc bs e
      unfold B_L_law_1786 at e
      refine xw_goto (show xm_Imp g Γ 1786 (xi_goto 2924) from xs_goto hΓ dL_law_1786 (by decide)) ?_
      exact hB_2924 _ _ _ _ e
    have hB_1733 : ∀ (l5 : Int32) (h : xm_H) (bc : Nat) (bs : Nat), B_L_law_1733 g l0 l1 l2 l3 l4 l5 h bc bs k28 Q → xm_W g Γ 1733 [some (va_rf l0), some (va_rf l1), some (va_rf l2), some (va_rf l3), some (va_rf l4), some (.int l5), none, none, none] [] h bc bs := by
      intro l5 h bc bs e
      unfold B_L_law_1733 at e
      refine xw_aldo (x := l1) (show xm_Imp g Γ 1733 (xi_ald 1 1734) from xs_aload_n hΓ dL_law_1733) rfl ?_
      refine xw_aldo (x := l0) (show xm_Imp g Γ 1734 (xi_ald 0 1735) from xs_aload_n hΓ dL_law_1734) rfl ?_
      refine xw_ild (show xm_Imp g Γ 1735 (xi_ild 5 1737) from xs_iload hΓ dL_law_1735) rfl ?_
      refine xw_psh (v := (.int (1))) (show xm_Imp g Γ 1737 (xi_psh (.int (1)) 1738) from xs_iconst hΓ dL_law_1737 (by decide)) ?_
      refine xw_ii (show xm_Imp g Γ 1738 (xi_ii (fun x y => x + y) 1739) from xs_iadd hΓ dL_law_1738) ?_
      obtain ⟨a450, ha450, e⟩ := e
      obtain ⟨v451, e1, e⟩ := e
      refine xw_hial (o := l0) (show xm_Imp g Γ 1739 (xi_ial 1740) from xs_ial hG hΓ dL_law_1739) ha450 e1 ?_
      refine xw_aldo (x := l3) (show xm_Imp g Γ 1740 (xi_ald 3 1741) from xs_aload_n hΓ dL_law_1740) rfl ?_
      obtain ⟨m452, m453, ⟨em1, em2⟩, e⟩ := e
      refine xw_tsi3 (show xm_Imp g Γ 1741 (xi_inv g M_X0_lightest 11 3 1744) from xs_invSW hG hΓ k_X0_lightest rfl q2048 q2049 dL_law_1741) rfl em1 em2 (K_X0_lightest hG l1 v451 l3 _ _ _ e) (fun v455 h454 e => ?_)
      refine xw_ist (ls' := [some (va_rf l0), some (va_rf l1), some (va_rf l2), some (va_rf l3), some (va_rf l4), some (.int l5), some (.int v455), none, none]) (show xm_Imp g Γ 1744 (xi_ist 6 1746) from xs_istore hΓ dL_law_1744 (Nat.le_of_ble_eq_true rfl)) rfl ?_
      refine xw_aldo (x := l2) (show xm_Imp g Γ 1746 (xi_ald 2 1747) from xs_aload_n hΓ dL_law_1746) rfl ?_
      refine xw_aldo (x := l0) (show xm_Imp g Γ 1747 (xi_ald 0 1748) from xs_aload_n hΓ dL_law_1747) rfl ?_
      refine xw_ild (show xm_Imp g Γ 1748 (xi_ild 5 1750) from xs_iload hΓ dL_law_1748) rfl ?_
      refine xw_psh (v := (.int (1))) (show xm_Imp g Γ 1750 (xi_psh (.int (1)) 1751) from xs_iconst hΓ dL_law_1750 (by decide)) ?_
      refine xw_ii (show xm_Imp g Γ 1751 (xi_ii (fun x y => x + y) 1752) from xs_iadd hΓ dL_law_1751) ?_
      obtain ⟨v456, e1, e⟩ := e
      refine xw_hial (o := l0) (show xm_Imp g Γ 1752 (xi_ial 1753) from xs_ial hG hΓ dL_law_1752) ha450 e1 ?_
      obtain ⟨a457, ha457, e⟩ := e
      obtain ⟨ad458, σ459, hMad458, hBad458, hhad458, e⟩ := e
      obtain ⟨v460, e1, e⟩ := e
      refine xw_hv1 (o := l2) (u := ()) (show xm_Imp g Γ 1753 (xi_vir g 4 M_X5_lightest 6 1 1756) from xs_invV hG hΓ k_X5_lightest rfl (ci := 4) rfl q3352 q3353 q3354 dL_law_1753) (by simp [xm_stk, xv_cat, xc_int, xc_long, xc_float, xc_double, xc_ref]) ha457 (xM_is hhad458) (xM_run hhad458 (fun Q X hQ => K_X5_lightest hG hMad458 hBad458 v456 σ459 e1 hQ)) ?_
      refine xw_ist (ls' := [some (va_rf l0), some (va_rf l1), some (va_rf l2), some (va_rf l3), some (va_rf l4), some (.int l5), some (.int v455), some (.int v460.1), none]) (show xm_Imp g Γ 1756 (xi_ist 7 1758) from xs_istore hΓ dL_law_1756 (Nat.le_of_ble_eq_true rfl)) rfl ?_
      refine xw_aldo (x := l2) (show xm_Imp g Γ 1758 (xi_ald 2 1759) from xs_aload_n hΓ dL_law_1758) rfl ?_
      obtain ⟨ad461, σ462, hMad461, hBad461, hhad461, e⟩ := e
      obtain ⟨v463, e1, e⟩ := e
      refine xw_hv0 (o := l2) (u := ()) (show xm_Imp g Γ 1759 (xi_vir g 4 M_X5_thrown 1 0 1762) from xs_invV hG hΓ k_X5_thrown rfl (ci := 4) rfl q2978 q2979 q2980 dL_law_1759) (by simp [xm_stk, xv_cat, xc_int, xc_long, xc_float, xc_double, xc_ref]) ha457 (xM_is hhad461) (xM_run0 hhad461 (fun Q X hQ => K_X5_thrown hG hMad461 hBad461 σ462 (Option.some.inj e1) hQ)) ?_
      refine xw_ild (show xm_Imp g Γ 1762 (xi_ild 6 1764) from xs_iload hΓ dL_law_1762) rfl ?_
      refine xw_ic (show xm_Imp g Γ 1764 (xi_ic (fun x y => x = y) 1769 1767) from xs_icmp_eq hΓ dL_law_1764 (by decide)) (fun c => ?_) (fun c => ?_)
      · rw [if_pos c] at e
        refine xw_ild (show xm_Imp g Γ 1769 (xi_ild 6 1771) from xs_iload hΓ dL_law_1769) rfl ?_
        refine xw_if (show xm_Imp g Γ 1771 (xi_if (fun x => x = 0) 1774 1786) from xs_if_ne hΓ dL_law_1771 (by decide)) (fun c => ?_) (fun c => ?_)
        · rw [if_pos c] at e
          refine xw_aldo (x := l3) (show xm_Imp g Γ 1774 (xi_ald 3 1775) from xs_aload_n hΓ dL_law_1774) rfl ?_
          refine xw_psh (v := (.int (0))) (show xm_Imp g Γ 1775 (xi_psh (.int (0)) 1776) from xs_iconst hΓ dL_law_1775 (by decide)) ?_
          obtain ⟨a464, ha464, e⟩ := e
          obtain ⟨v465, e1, e⟩ := e
          refine xw_hlal (o := l3) (show xm_Imp g Γ 1776 (xi_lal 1777) from xs_lal hG hΓ dL_law_1776) ha464 e1 ?_
          refine xw_ild (show xm_Imp g Γ 1777 (xi_ild 7 1779) from xs_iload hΓ dL_law_1777) rfl ?_
          refine xw_i2l (show xm_Imp g Γ 1779 (xi_i2l 1780) from xs_i2l hΓ dL_law_1779) ?_
          refine xw_lcmp (show xm_Imp g Γ 1780 (xi_lcmp 1781) from xs_lcmp hΓ dL_law_1780) ?_
          refine xw_if (show xm_Imp g Γ 1781 (xi_if (fun x => x = 0) 1786 1784) from xs_if_eq hΓ dL_law_1781 (by decide)) (fun c => ?_) (fun c => ?_)
          · rw [if_pos c] at e
            exact xm_lx (hB_1786 _ _ _ _ e) (And.intro rfl (And.intro rfl (And.intro rfl (And.intro rfl (And.intro rfl (And.intro rfl (trivial)))))))
          · rw [if_neg c] at e
            refine xw_psh (v := (.int (0))) (show xm_Imp g Γ 1784 (xi_psh (.int (0)) 1785) from xs_iconst hΓ dL_law_1784 (by decide)) ?_
            exact xw_iret (show xm_Imp g Γ 1785 (xi_iret .boolean _) from xs_ireturn hΓ rfl dL_law_1785) rfl ⟨_, rfl, e⟩
        · rw [if_neg c] at e
          exact xm_lx (hB_1786 _ _ _ _ e) (And.intro rfl (And.intro rfl (And.intro rfl (And.intro rfl (And.intro rfl (And.intro rfl (trivial)))))))
      · rw [if_neg c] at e
        refine xw_psh (v := (.int (0))) (show xm_Imp g Γ 1767 (xi_psh (.int (0)) 1768) from xs_iconst hΓ dL_law_1767 (by decide)) ?_
        exact xw_iret (show xm_Imp g Γ 1768 (xi_iret .boolean _) from xs_ireturn hΓ rfl dL_law_1768) rfl ⟨_, rfl, e⟩
    have hB_1890 : ∀ (l5 : Int32) (h : xm_H) (bc : Nat) (bs : Nat), B_L_law_1890 g l0 l1 l2 l3 l4 l5 h bc bs k28 Q → xm_W g Γ 1890 [some (va_rf l0), some (va_rf l1), some (va_rf l2), some (va_rf l3), some (va_rf l4), some (.int l5), none, none, none] [] h bc bs := by
      intro l5 h bc bs e
      unfold B_L_law_1890 at e
      refine xw_goto (show xm_Imp g Γ 1890 (xi_goto 2924) from xs_goto hΓ dL_law_1890 (by decide)) ?_
      exact hB_2924 _ _ _ _ e
    have hB_1789 : ∀ (l5 : Int32) (h : xm_H) (bc : Nat) (bs : Nat), B_L_law_1789 g l0 l1 l2 l3 l4 l5 h bc bs k28 Q → xm_W g Γ 1789 [some (va_rf l0), some (va_rf l1), some (va_rf l2), some (va_rf l3), some (va_rf l4), some (.int l5), none, none, none] [] h bc bs := by
      intro l5 h bc bs e
      unfold B_L_law_1789 at e
      refine xw_aldo (x := l1) (show xm_Imp g Γ 1789 (xi_ald 1 1790) from xs_aload_n hΓ dL_law_1789) rfl ?_
      refine xw_aldo (x := l0) (show xm_Imp g Γ 1790 (xi_ald 0 1791) from xs_aload_n hΓ dL_law_1790) rfl ?_
      refine xw_ild (show xm_Imp g Γ 1791 (xi_ild 5 1793) from xs_iload hΓ dL_law_1791) rfl ?_
      refine xw_psh (v := (.int (1))) (show xm_Imp g Γ 1793 (xi_psh (.int (1)) 1794) from xs_iconst hΓ dL_law_1793 (by decide)) ?_
      refine xw_ii (show xm_Imp g Γ 1794 (xi_ii (fun x y => x + y) 1795) from xs_iadd hΓ dL_law_1794) ?_
      obtain ⟨a466, ha466, e⟩ := e
      obtain ⟨v467, e1, e⟩ := e
      refine xw_hial (o := l0) (show xm_Imp g Γ 1795 (xi_ial 1796) from xs_ial hG hΓ dL_law_1795) ha466 e1 ?_
      refine xw_aldo (x := l0) (show xm_Imp g Γ 1796 (xi_ald 0 1797) from xs_aload_n hΓ dL_law_1796) rfl ?_
      refine xw_ild (show xm_Imp g Γ 1797 (xi_ild 5 1799) from xs_iload hΓ dL_law_1797) rfl ?_
      refine xw_psh (v := (.int (2))) (show xm_Imp g Γ 1799 (xi_psh (.int (2)) 1800) from xs_iconst hΓ dL_law_1799 (by decide)) ?_
      refine xw_ii (show xm_Imp g Γ 1800 (xi_ii (fun x y => x + y) 1801) from xs_iadd hΓ dL_law_1800) ?_
      obtain ⟨v468, e1, e⟩ := e
      refine xw_hial (o := l0) (show xm_Imp g Γ 1801 (xi_ial 1802) from xs_ial hG hΓ dL_law_1801) ha466 e1 ?_
      refine xw_aldo (x := l0) (show xm_Imp g Γ 1802 (xi_ald 0 1803) from xs_aload_n hΓ dL_law_1802) rfl ?_
      refine xw_ild (show xm_Imp g Γ 1803 (xi_ild 5 1805) from xs_iload hΓ dL_law_1803) rfl ?_
      refine xw_psh (v := (.int (3))) (show xm_Imp g Γ 1805 (xi_psh (.int (3)) 1806) from xs_iconst hΓ dL_law_1805 (by decide)) ?_
      refine xw_ii (show xm_Imp g Γ 1806 (xi_ii (fun x y => x + y) 1807) from xs_iadd hΓ dL_law_1806) ?_
      obtain ⟨v469, e1, e⟩ := e
      refine xw_hial (o := l0) (show xm_Imp g Γ 1807 (xi_ial 1808) from xs_ial hG hΓ dL_law_1807) ha466 e1 ?_
      refine xw_aldo (x := l0) (show xm_Imp g Γ 1808 (xi_ald 0 1809) from xs_aload_n hΓ dL_law_1808) rfl ?_
      refine xw_ild (show xm_Imp g Γ 1809 (xi_ild 5 1811) from xs_iload hΓ dL_law_1809) rfl ?_
      refine xw_psh (v := (.int (4))) (show xm_Imp g Γ 1811 (xi_psh (.int (4)) 1812) from xs_iconst hΓ dL_law_1811 (by decide)) ?_
      refine xw_ii (show xm_Imp g Γ 1812 (xi_ii (fun x y => x + y) 1813) from xs_iadd hΓ dL_law_1812) ?_
      obtain ⟨v470, e1, e⟩ := e
      refine xw_hial (o := l0) (show xm_Imp g Γ 1813 (xi_ial 1814) from xs_ial hG hΓ dL_law_1813) ha466 e1 ?_
      refine xw_aldo (x := l0) (show xm_Imp g Γ 1814 (xi_ald 0 1815) from xs_aload_n hΓ dL_law_1814) rfl ?_
      refine xw_ild (show xm_Imp g Γ 1815 (xi_ild 5 1817) from xs_iload hΓ dL_law_1815) rfl ?_
      refine xw_psh (v := (.int (5))) (show xm_Imp g Γ 1817 (xi_psh (.int (5)) 1818) from xs_iconst hΓ dL_law_1817 (by decide)) ?_
      refine xw_ii (show xm_Imp g Γ 1818 (xi_ii (fun x y => x + y) 1819) from xs_iadd hΓ dL_law_1818) ?_
      obtain ⟨v471, e1, e⟩ := e
      refine xw_hial (o := l0) (show xm_Imp g Γ 1819 (xi_ial 1820) from xs_ial hG hΓ dL_law_1819) ha466 e1 ?_
      refine xw_aldo (x := l3) (show xm_Imp g Γ 1820 (xi_ald 3 1821) from xs_aload_n hΓ dL_law_1820) rfl ?_
      obtain ⟨m472, m473, ⟨em1, em2⟩, e⟩ := e
      refine xw_tsi7 (show xm_Imp g Γ 1821 (xi_inv g M_X0_pushed 13 7 1824) from xs_invSW hG hΓ k_X0_pushed rfl q2058 q2059 dL_law_1821) rfl em1 em2 (K_X0_pushed hG l1 v467 v468 v469 v470 v471 l3 _ _ _ e) (fun v475 h474 e => ?_)
      refine xw_ist (ls' := [some (va_rf l0), some (va_rf l1), some (va_rf l2), some (va_rf l3), some (va_rf l4), some (.int l5), some (.int v475), none, none]) (show xm_Imp g Γ 1824 (xi_ist 6 1826) from xs_istore hΓ dL_law_1824 (Nat.le_of_ble_eq_true rfl)) rfl ?_
      refine xw_aldo (x := l2) (show xm_Imp g Γ 1826 (xi_ald 2 1827) from xs_aload_n hΓ dL_law_1826) rfl ?_
      refine xw_aldo (x := l0) (show xm_Imp g Γ 1827 (xi_ald 0 1828) from xs_aload_n hΓ dL_law_1827) rfl ?_
      refine xw_ild (show xm_Imp g Γ 1828 (xi_ild 5 1830) from xs_iload hΓ dL_law_1828) rfl ?_
      refine xw_psh (v := (.int (1))) (show xm_Imp g Γ 1830 (xi_psh (.int (1)) 1831) from xs_iconst hΓ dL_law_1830 (by decide)) ?_
      refine xw_ii (show xm_Imp g Γ 1831 (xi_ii (fun x y => x + y) 1832) from xs_iadd hΓ dL_law_1831) ?_
      obtain ⟨v476, e1, e⟩ := e
      refine xw_hial (o := l0) (show xm_Imp g Γ 1832 (xi_ial 1833) from xs_ial hG hΓ dL_law_1832) ha466 e1 ?_
      refine xw_aldo (x := l0) (show xm_Imp g Γ 1833 (xi_ald 0 1834) from xs_aload_n hΓ dL_law_1833) rfl ?_
      refine xw_ild (show xm_Imp g Γ 1834 (xi_ild 5 1836) from xs_iload hΓ dL_law_1834) rfl ?_
      refine xw_psh (v := (.int (2))) (show xm_Imp g Γ 1836 (xi_psh (.int (2)) 1837) from xs_iconst hΓ dL_law_1836 (by decide)) ?_
      refine xw_ii (show xm_Imp g Γ 1837 (xi_ii (fun x y => x + y) 1838) from xs_iadd hΓ dL_law_1837) ?_
      obtain ⟨v477, e1, e⟩ := e
      refine xw_hial (o := l0) (show xm_Imp g Γ 1838 (xi_ial 1839) from xs_ial hG hΓ dL_law_1838) ha466 e1 ?_
      refine xw_aldo (x := l0) (show xm_Imp g Γ 1839 (xi_ald 0 1840) from xs_aload_n hΓ dL_law_1839) rfl ?_
      refine xw_ild (show xm_Imp g Γ 1840 (xi_ild 5 1842) from xs_iload hΓ dL_law_1840) rfl ?_
      refine xw_psh (v := (.int (3))) (show xm_Imp g Γ 1842 (xi_psh (.int (3)) 1843) from xs_iconst hΓ dL_law_1842 (by decide)) ?_
      refine xw_ii (show xm_Imp g Γ 1843 (xi_ii (fun x y => x + y) 1844) from xs_iadd hΓ dL_law_1843) ?_
      obtain ⟨v478, e1, e⟩ := e
      refine xw_hial (o := l0) (show xm_Imp g Γ 1844 (xi_ial 1845) from xs_ial hG hΓ dL_law_1844) ha466 e1 ?_
      refine xw_aldo (x := l0) (show xm_Imp g Γ 1845 (xi_ald 0 1846) from xs_aload_n hΓ dL_law_1845) rfl ?_
      refine xw_ild (show xm_Imp g Γ 1846 (xi_ild 5 1848) from xs_iload hΓ dL_law_1846) rfl ?_
      refine xw_psh (v := (.int (4))) (show xm_Imp g Γ 1848 (xi_psh (.int (4)) 1849) from xs_iconst hΓ dL_law_1848 (by decide)) ?_
      refine xw_ii (show xm_Imp g Γ 1849 (xi_ii (fun x y => x + y) 1850) from xs_iadd hΓ dL_law_1849) ?_
      obtain ⟨v479, e1, e⟩ := e
      refine xw_hial (o := l0) (show xm_Imp g Γ 1850 (xi_ial 1851) from xs_ial hG hΓ dL_law_1850) ha466 e1 ?_
      refine xw_aldo (x := l0) (show xm_Imp g Γ 1851 (xi_ald 0 1852) from xs_aload_n hΓ dL_law_1851) rfl ?_
      refine xw_ild (show xm_Imp g Γ 1852 (xi_ild 5 1854) from xs_iload hΓ dL_law_1852) rfl ?_
      refine xw_psh (v := (.int (5))) (show xm_Imp g Γ 1854 (xi_psh (.int (5)) 1855) from xs_iconst hΓ dL_law_1854 (by decide)) ?_
      refine xw_ii (show xm_Imp g Γ 1855 (xi_ii (fun x y => x + y) 1856) from xs_iadd hΓ dL_law_1855) ?_
      obtain ⟨v480, e1, e⟩ := e
      refine xw_hial (o := l0) (show xm_Imp g Γ 1856 (xi_ial 1857) from xs_ial hG hΓ dL_law_1856) ha466 e1 ?_
      obtain ⟨a481, ha481, e⟩ := e
      obtain ⟨ad482, σ483, hMad482, hBad482, hhad482, e⟩ := e
      obtain ⟨v484, e1, e⟩ := e
      refine xw_hv5 (o := l2) (u := ()) (show xm_Imp g Γ 1857 (xi_vir g 4 M_X5_pushed 5 5 1860) from xs_invV hG hΓ k_X5_pushed rfl (ci := 4) rfl q3357 q3358 q3359 dL_law_1857) (by simp [xm_stk, xv_cat, xc_int, xc_long, xc_float, xc_double, xc_ref]) ha481 (xM_is hhad482) (xM_run hhad482 (fun Q X hQ => K_X5_pushed hG hMad482 hBad482 v476 v477 v478 v479 v480 σ483 e1 hQ)) ?_
      refine xw_ist (ls' := [some (va_rf l0), some (va_rf l1), some (va_rf l2), some (va_rf l3), some (va_rf l4), some (.int l5), some (.int v475), some (.int v484.1), none]) (show xm_Imp g Γ 1860 (xi_ist 7 1862) from xs_istore hΓ dL_law_1860 (Nat.le_of_ble_eq_true rfl)) rfl ?_
      refine xw_aldo (x := l2) (show xm_Imp g Γ 1862 (xi_ald 2 1863) from xs_aload_n hΓ dL_law_1862) rfl ?_
      obtain ⟨ad485, σ486, hMad485, hBad485, hhad485, e⟩ := e
      obtain ⟨v487, e1, e⟩ := e
      refine xw_hv0 (o := l2) (u := ()) (show xm_Imp g Γ 1863 (xi_vir g 4 M_X5_thrown 1 0 1866) from xs_invV hG hΓ k_X5_thrown rfl (ci := 4) rfl q2978 q2979 q2980 dL_law_1863) (by simp [xm_stk, xv_cat, xc_int, xc_long, xc_float, xc_double, xc_ref]) ha481 (xM_is hhad485) (xM_run0 hhad485 (fun Q X hQ => K_X5_thrown hG hMad485 hBad485 σ486 (Option.some.inj e1) hQ)) ?_
      refine xw_ild (show xm_Imp g Γ 1866 (xi_ild 6 1868) from xs_iload hΓ dL_law_1866) rfl ?_
      refine xw_ic (show xm_Imp g Γ 1868 (xi_ic (fun x y => x = y) 1873 1871) from xs_icmp_eq hΓ dL_law_1868 (by decide)) (fun c => ?_) (fun c => ?_)
      · rw [if_pos c] at e
        refine xw_ild (show xm_Imp g Γ 1873 (xi_ild 6 1875) from xs_iload hΓ dL_law_1873) rfl ?_
        refine xw_if (show xm_Imp g Γ 1875 (xi_if (fun x => x = 0) 1878 1890) from xs_if_ne hΓ dL_law_1875 (by decide)) (fun c => ?_) (fun c => ?_)
        · rw [if_pos c] at e
          refine xw_aldo (x := l3) (show xm_Imp g Γ 1878 (xi_ald 3 1879) from xs_aload_n hΓ dL_law_1878) rfl ?_
          refine xw_psh (v := (.int (0))) (show xm_Imp g Γ 1879 (xi_psh (.int (0)) 1880) from xs_iconst hΓ dL_law_1879 (by decide)) ?_
          obtain ⟨a488, ha488, e⟩ := e
          obtain ⟨v489, e1, e⟩ := e
          refine xw_hlal (o := l3) (show xm_Imp g Γ 1880 (xi_lal 1881) from xs_lal hG hΓ dL_law_1880) ha488 e1 ?_
          refine xw_ild (show xm_Imp g Γ 1881 (xi_ild 7 1883) from xs_iload hΓ dL_law_1881) rfl ?_
          refine xw_i2l (show xm_Imp g Γ 1883 (xi_i2l 1884) from xs_i2l hΓ dL_law_1883) ?_
          refine xw_lcmp (show xm_Imp g Γ 1884 (xi_lcmp 1885) from xs_lcmp hΓ dL_law_1884) ?_
          refine xw_if (show xm_Imp g Γ 1885 (xi_if (fun x => x = 0) 1890 1888) from xs_if_eq hΓ dL_law_1885 (by decide)) (fun c => ?_) (fun c => ?_)
          · rw [if_pos c] at e
            exact xm_lx (hB_1890 _ _ _ _ e) (And.intro rfl (And.intro rfl (And.intro rfl (And.intro rfl (And.intro rfl (And.intro rfl (trivial)))))))
          · rw [if_neg c] at e
            refine xw_psh (v := (.int (0))) (show xm_Imp g Γ 1888 (xi_psh (.int (0)) 1889) from xs_iconst hΓ dL_law_1888 (by decide)) ?_
            exact xw_iret (show xm_Imp g Γ 1889 (xi_iret .boolean _) from xs_ireturn hΓ rfl dL_law_1889) rfl ⟨_, rfl, e⟩
        · rw [if_neg c] at e
          exact xm_lx (hB_1890 _ _ _ _ e) (And.intro rfl (And.intro rfl (And.intro rfl (And.intro rfl (And.intro rfl (And.intro rfl (trivial)))))))
      · rw [if_neg c] at e
        refine xw_psh (v := (.int (0))) (show xm_Imp g Γ 1871 (xi_psh (.int (0)) 1872) from xs_iconst hΓ dL_law_1871 (by decide)) ?_
        exact xw_iret (show xm_Imp g Γ 1872 (xi_iret .boolean _) from xs_ireturn hΓ rfl dL_law_1872) rfl ⟨_, rfl, e⟩
    have hB_1994 : ∀ (l5 : Int32) (h : xm_H) (bc : Nat) (bs : Nat), B_L_law_1994 g l0 l1 l2 l3 l4 l5 h bc bs k28 Q → xm_W g Γ 1994 [some (va_rf l0), some (va_rf l1), some (va_rf l2), some (va_rf l3), some (va_rf l4), some (.int l5), none, none, none] [] h bc bs := by
      intro l5 h bc bs e
      unfold B_L_law_1994 at e
      refine xw_goto (show xm_Imp g Γ 1994 (xi_goto 2924) from xs_goto hΓ dL_law_1994 (by decide)) ?_
      exact hB_2924 _ _ _ _ e
    have hB_1893 : ∀ (l5 : Int32) (h : xm_H) (bc : Nat) (bs : Nat), B_L_law_1893 g l0 l1 l2 l3 l4 l5 h bc bs k28 Q → xm_W g Γ 1893 [some (va_rf l0), some (va_rf l1), some (va_rf l2), some (va_rf l3), some (va_rf l4), some (.int l5), none, none, none] [] h bc bs := by
      intro l5 h bc bs e
      unfold B_L_law_1893 at e
      refine xw_aldo (x := l1) (show xm_Imp g Γ 1893 (xi_ald 1 1894) from xs_aload_n hΓ dL_law_1893) rfl ?_
      refine xw_aldo (x := l0) (show xm_Imp g Γ 1894 (xi_ald 0 1895) from xs_aload_n hΓ dL_law_1894) rfl ?_
      refine xw_ild (show xm_Imp g Γ 1895 (xi_ild 5 1897) from xs_iload hΓ dL_law_1895) rfl ?_
      refine xw_psh (v := (.int (1))) (show xm_Imp g Γ 1897 (xi_psh (.int (1)) 1898) from xs_iconst hΓ dL_law_1897 (by decide)) ?_
      refine xw_ii (show xm_Imp g Γ 1898 (xi_ii (fun x y => x + y) 1899) from xs_iadd hΓ dL_law_1898) ?_
      obtain ⟨a490, ha490, e⟩ := e
      obtain ⟨v491, e1, e⟩ := e
      refine xw_hial (o := l0) (show xm_Imp g Γ 1899 (xi_ial 1900) from xs_ial hG hΓ dL_law_1899) ha490 e1 ?_
      refine xw_aldo (x := l0) (show xm_Imp g Γ 1900 (xi_ald 0 1901) from xs_aload_n hΓ dL_law_1900) rfl ?_
      refine xw_ild (show xm_Imp g Γ 1901 (xi_ild 5 1903) from xs_iload hΓ dL_law_1901) rfl ?_
      refine xw_psh (v := (.int (2))) (show xm_Imp g Γ 1903 (xi_psh (.int (2)) 1904) from xs_iconst hΓ dL_law_1903 (by decide)) ?_
      refine xw_ii (show xm_Imp g Γ 1904 (xi_ii (fun x y => x + y) 1905) from xs_iadd hΓ dL_law_1904) ?_
      obtain ⟨v492, e1, e⟩ := e
      refine xw_hial (o := l0) (show xm_Imp g Γ 1905 (xi_ial 1906) from xs_ial hG hΓ dL_law_1905) ha490 e1 ?_
      refine xw_aldo (x := l0) (show xm_Imp g Γ 1906 (xi_ald 0 1907) from xs_aload_n hΓ dL_law_1906) rfl ?_
      refine xw_ild (show xm_Imp g Γ 1907 (xi_ild 5 1909) from xs_iload hΓ dL_law_1907) rfl ?_
      refine xw_psh (v := (.int (3))) (show xm_Imp g Γ 1909 (xi_psh (.int (3)) 1910) from xs_iconst hΓ dL_law_1909 (by decide)) ?_
      refine xw_ii (show xm_Imp g Γ 1910 (xi_ii (fun x y => x + y) 1911) from xs_iadd hΓ dL_law_1910) ?_
      obtain ⟨v493, e1, e⟩ := e
      refine xw_hial (o := l0) (show xm_Imp g Γ 1911 (xi_ial 1912) from xs_ial hG hΓ dL_law_1911) ha490 e1 ?_
      refine xw_aldo (x := l0) (show xm_Imp g Γ 1912 (xi_ald 0 1913) from xs_aload_n hΓ dL_law_1912) rfl ?_
      refine xw_ild (show xm_Imp g Γ 1913 (xi_ild 5 1915) from xs_iload hΓ dL_law_1913) rfl ?_
      refine xw_psh (v := (.int (4))) (show xm_Imp g Γ 1915 (xi_psh (.int (4)) 1916) from xs_iconst hΓ dL_law_1915 (by decide)) ?_
      refine xw_ii (show xm_Imp g Γ 1916 (xi_ii (fun x y => x + y) 1917) from xs_iadd hΓ dL_law_1916) ?_
      obtain ⟨v494, e1, e⟩ := e
      refine xw_hial (o := l0) (show xm_Imp g Γ 1917 (xi_ial 1918) from xs_ial hG hΓ dL_law_1917) ha490 e1 ?_
      refine xw_aldo (x := l0) (show xm_Imp g Γ 1918 (xi_ald 0 1919) from xs_aload_n hΓ dL_law_1918) rfl ?_
      refine xw_ild (show xm_Imp g Γ 1919 (xi_ild 5 1921) from xs_iload hΓ dL_law_1919) rfl ?_
      refine xw_psh (v := (.int (5))) (show xm_Imp g Γ 1921 (xi_psh (.int (5)) 1922) from xs_iconst hΓ dL_law_1921 (by decide)) ?_
      refine xw_ii (show xm_Imp g Γ 1922 (xi_ii (fun x y => x + y) 1923) from xs_iadd hΓ dL_law_1922) ?_
      obtain ⟨v495, e1, e⟩ := e
      refine xw_hial (o := l0) (show xm_Imp g Γ 1923 (xi_ial 1924) from xs_ial hG hΓ dL_law_1923) ha490 e1 ?_
      refine xw_aldo (x := l3) (show xm_Imp g Γ 1924 (xi_ald 3 1925) from xs_aload_n hΓ dL_law_1924) rfl ?_
      obtain ⟨m496, m497, ⟨em1, em2⟩, e⟩ := e
      refine xw_tsi7 (show xm_Imp g Γ 1925 (xi_inv g M_X0_pulled 13 7 1928) from xs_invSW hG hΓ k_X0_pulled rfl q2082 q2083 dL_law_1925) rfl em1 em2 (K_X0_pulled hG l1 v491 v492 v493 v494 v495 l3 _ _ _ e) (fun v499 h498 e => ?_)
      refine xw_ist (ls' := [some (va_rf l0), some (va_rf l1), some (va_rf l2), some (va_rf l3), some (va_rf l4), some (.int l5), some (.int v499), none, none]) (show xm_Imp g Γ 1928 (xi_ist 6 1930) from xs_istore hΓ dL_law_1928 (Nat.le_of_ble_eq_true rfl)) rfl ?_
      refine xw_aldo (x := l2) (show xm_Imp g Γ 1930 (xi_ald 2 1931) from xs_aload_n hΓ dL_law_1930) rfl ?_
      refine xw_aldo (x := l0) (show xm_Imp g Γ 1931 (xi_ald 0 1932) from xs_aload_n hΓ dL_law_1931) rfl ?_
      refine xw_ild (show xm_Imp g Γ 1932 (xi_ild 5 1934) from xs_iload hΓ dL_law_1932) rfl ?_
      refine xw_psh (v := (.int (1))) (show xm_Imp g Γ 1934 (xi_psh (.int (1)) 1935) from xs_iconst hΓ dL_law_1934 (by decide)) ?_
      refine xw_ii (show xm_Imp g Γ 1935 (xi_ii (fun x y => x + y) 1936) from xs_iadd hΓ dL_law_1935) ?_
      obtain ⟨v500, e1, e⟩ := e
      refine xw_hial (o := l0) (show xm_Imp g Γ 1936 (xi_ial 1937) from xs_ial hG hΓ dL_law_1936) ha490 e1 ?_
      refine xw_aldo (x := l0) (show xm_Imp g Γ 1937 (xi_ald 0 1938) from xs_aload_n hΓ dL_law_1937) rfl ?_
      refine xw_ild (show xm_Imp g Γ 1938 (xi_ild 5 1940) from xs_iload hΓ dL_law_1938) rfl ?_
      refine xw_psh (v := (.int (2))) (show xm_Imp g Γ 1940 (xi_psh (.int (2)) 1941) from xs_iconst hΓ dL_law_1940 (by decide)) ?_
      refine xw_ii (show xm_Imp g Γ 1941 (xi_ii (fun x y => x + y) 1942) from xs_iadd hΓ dL_law_1941) ?_
      obtain ⟨v501, e1, e⟩ := e
      refine xw_hial (o := l0) (show xm_Imp g Γ 1942 (xi_ial 1943) from xs_ial hG hΓ dL_law_1942) ha490 e1 ?_
      refine xw_aldo (x := l0) (show xm_Imp g Γ 1943 (xi_ald 0 1944) from xs_aload_n hΓ dL_law_1943) rfl ?_
      refine xw_ild (show xm_Imp g Γ 1944 (xi_ild 5 1946) from xs_iload hΓ dL_law_1944) rfl ?_
      refine xw_psh (v := (.int (3))) (show xm_Imp g Γ 1946 (xi_psh (.int (3)) 1947) from xs_iconst hΓ dL_law_1946 (by decide)) ?_
      refine xw_ii (show xm_Imp g Γ 1947 (xi_ii (fun x y => x + y) 1948) from xs_iadd hΓ dL_law_1947) ?_
      obtain ⟨v502, e1, e⟩ := e
      refine xw_hial (o := l0) (show xm_Imp g Γ 1948 (xi_ial 1949) from xs_ial hG hΓ dL_law_1948) ha490 e1 ?_
      refine xw_aldo (x := l0) (show xm_Imp g Γ 1949 (xi_ald 0 1950) from xs_aload_n hΓ dL_law_1949) rfl ?_
      refine xw_ild (show xm_Imp g Γ 1950 (xi_ild 5 1952) from xs_iload hΓ dL_law_1950) rfl ?_
      refine xw_psh (v := (.int (4))) (show xm_Imp g Γ 1952 (xi_psh (.int (4)) 1953) from xs_iconst hΓ dL_law_1952 (by decide)) ?_
      refine xw_ii (show xm_Imp g Γ 1953 (xi_ii (fun x y => x + y) 1954) from xs_iadd hΓ dL_law_1953) ?_
      obtain ⟨v503, e1, e⟩ := e
      refine xw_hial (o := l0) (show xm_Imp g Γ 1954 (xi_ial 1955) from xs_ial hG hΓ dL_law_1954) ha490 e1 ?_
      refine xw_aldo (x := l0) (show xm_Imp g Γ 1955 (xi_ald 0 1956) from xs_aload_n hΓ dL_law_1955) rfl ?_
      refine xw_ild (show xm_Imp g Γ 1956 (xi_ild 5 1958) from xs_iload hΓ dL_law_1956) rfl ?_
      refine xw_psh (v := (.int (5))) (show xm_Imp g Γ 1958 (xi_psh (.int (5)) 1959) from xs_iconst hΓ dL_law_1958 (by decide)) ?_
      refine xw_ii (show xm_Imp g Γ 1959 (xi_ii (fun x y => x + y) 1960) from xs_iadd hΓ dL_law_1959) ?_
      obtain ⟨v504, e1, e⟩ := e
      refine xw_hial (o := l0) (show xm_Imp g Γ 1960 (xi_ial 1961) from xs_ial hG hΓ dL_law_1960) ha490 e1 ?_
      obtain ⟨a505, ha505, e⟩ := e
      obtain ⟨ad506, σ507, hMad506, hBad506, hhad506, e⟩ := e
      obtain ⟨v508, e1, e⟩ := e
      refine xw_hv5 (o := l2) (u := ()) (show xm_Imp g Γ 1961 (xi_vir g 4 M_X5_pulled 6 5 1964) from xs_invV hG hΓ k_X5_pulled rfl (ci := 4) rfl q3373 q3374 q3375 dL_law_1961) (by simp [xm_stk, xv_cat, xc_int, xc_long, xc_float, xc_double, xc_ref]) ha505 (xM_is hhad506) (xM_run hhad506 (fun Q X hQ => K_X5_pulled hG hMad506 hBad506 v500 v501 v502 v503 v504 σ507 e1 hQ)) ?_
      refine xw_ist (ls' := [some (va_rf l0), some (va_rf l1), some (va_rf l2), some (va_rf l3), some (va_rf l4), some (.int l5), some (.int v499), some (.int v508.1), none]) (show xm_Imp g Γ 1964 (xi_ist 7 1966) from xs_istore hΓ dL_law_1964 (Nat.le_of_ble_eq_true rfl)) rfl ?_
      refine xw_aldo (x := l2) (show xm_Imp g Γ 1966 (xi_ald 2 1967) from xs_aload_n hΓ dL_law_1966) rfl ?_
      obtain ⟨ad509, σ510, hMad509, hBad509, hhad509, e⟩ := e
      obtain ⟨v511, e1, e⟩ := e
      refine xw_hv0 (o := l2) (u := ()) (show xm_Imp g Γ 1967 (xi_vir g 4 M_X5_thrown 1 0 1970) from xs_invV hG hΓ k_X5_thrown rfl (ci := 4) rfl q2978 q2979 q2980 dL_law_1967) (by simp [xm_stk, xv_cat, xc_int, xc_long, xc_float, xc_double, xc_ref]) ha505 (xM_is hhad509) (xM_run0 hhad509 (fun Q X hQ => K_X5_thrown hG hMad509 hBad509 σ510 (Option.some.inj e1) hQ)) ?_
      refine xw_ild (show xm_Imp g Γ 1970 (xi_ild 6 1972) from xs_iload hΓ dL_law_1970) rfl ?_
      refine xw_ic (show xm_Imp g Γ 1972 (xi_ic (fun x y => x = y) 1977 1975) from xs_icmp_eq hΓ dL_law_1972 (by decide)) (fun c => ?_) (fun c => ?_)
      · rw [if_pos c] at e
        refine xw_ild (show xm_Imp g Γ 1977 (xi_ild 6 1979) from xs_iload hΓ dL_law_1977) rfl ?_
        refine xw_if (show xm_Imp g Γ 1979 (xi_if (fun x => x = 0) 1982 1994) from xs_if_ne hΓ dL_law_1979 (by decide)) (fun c => ?_) (fun c => ?_)
        · rw [if_pos c] at e
          refine xw_aldo (x := l3) (show xm_Imp g Γ 1982 (xi_ald 3 1983) from xs_aload_n hΓ dL_law_1982) rfl ?_
          refine xw_psh (v := (.int (0))) (show xm_Imp g Γ 1983 (xi_psh (.int (0)) 1984) from xs_iconst hΓ dL_law_1983 (by decide)) ?_
          obtain ⟨a512, ha512, e⟩ := e
          obtain ⟨v513, e1, e⟩ := e
          refine xw_hlal (o := l3) (show xm_Imp g Γ 1984 (xi_lal 1985) from xs_lal hG hΓ dL_law_1984) ha512 e1 ?_
          refine xw_ild (show xm_Imp g Γ 1985 (xi_ild 7 1987) from xs_iload hΓ dL_law_1985) rfl ?_
          refine xw_i2l (show xm_Imp g Γ 1987 (xi_i2l 1988) from xs_i2l hΓ dL_law_1987) ?_
          refine xw_lcmp (show xm_Imp g Γ 1988 (xi_lcmp 1989) from xs_lcmp hΓ dL_law_1988) ?_
          refine xw_if (show xm_Imp g Γ 1989 (xi_if (fun x => x = 0) 1994 1992) from xs_if_eq hΓ dL_law_1989 (by decide)) (fun c => ?_) (fun c => ?_)
          · rw [if_pos c] at e
            exact xm_lx (hB_1994 _ _ _ _ e) (And.intro rfl (And.intro rfl (And.intro rfl (And.intro rfl (And.intro rfl (And.intro rfl (trivial)))))))
          · rw [if_neg c] at e
            refine xw_psh (v := (.int (0))) (show xm_Imp g Γ 1992 (xi_psh (.int (0)) 1993) from xs_iconst hΓ dL_law_1992 (by decide)) ?_
            exact xw_iret (show xm_Imp g Γ 1993 (xi_iret .boolean _) from xs_ireturn hΓ rfl dL_law_1993) rfl ⟨_, rfl, e⟩
        · rw [if_neg c] at e
          exact xm_lx (hB_1994 _ _ _ _ e) (And.intro rfl (And.intro rfl (And.intro rfl (And.intro rfl (And.intro rfl (And.intro rfl (trivial)))))))
      · rw [if_neg c] at e
        refine xw_psh (v := (.int (0))) (show xm_Imp g Γ 1975 (xi_psh (.int (0)) 1976) from xs_iconst hΓ dL_law_1975 (by decide)) ?_
        exact xw_iret (show xm_Imp g Γ 1976 (xi_iret .boolean _) from xs_ireturn hΓ rfl dL_law_1976) rfl ⟨_, rfl, e⟩
    have hB_2062 : ∀ (l5 : Int32) (h : xm_H) (bc : Nat) (bs : Nat), B_L_law_2062 g l0 l1 l2 l3 l4 l5 h bc bs k28 Q → xm_W g Γ 2062 [some (va_rf l0), some (va_rf l1), some (va_rf l2), some (va_rf l3), some (va_rf l4), some (.int l5), none, none, none] [] h bc bs := by
      intro l5 h bc bs e
      unfold B_L_law_2062 at e
      refine xw_goto (show xm_Imp g Γ 2062 (xi_goto 2924) from xs_goto hΓ dL_law_2062 (by decide)) ?_
      exact hB_2924 _ _ _ _ e
    have hB_1997 : ∀ (l5 : Int32) (h : xm_H) (bc : Nat) (bs : Nat), B_L_law_1997 g l0 l1 l2 l3 l4 l5 h bc bs k28 Q → xm_W g Γ 1997 [some (va_rf l0), some (va_rf l1), some (va_rf l2), some (va_rf l3), some (va_rf l4), some (.int l5), none, none, none] [] h bc bs := by
      intro l5 h bc bs e
      unfold B_L_law_1997 at e
      refine xw_aldo (x := l1) (show xm_Imp g Γ 1997 (xi_ald 1 1998) from xs_aload_n hΓ dL_law_1997) rfl ?_
      refine xw_aldo (x := l0) (show xm_Imp g Γ 1998 (xi_ald 0 1999) from xs_aload_n hΓ dL_law_1998) rfl ?_
      refine xw_ild (show xm_Imp g Γ 1999 (xi_ild 5 2001) from xs_iload hΓ dL_law_1999) rfl ?_
      refine xw_psh (v := (.int (1))) (show xm_Imp g Γ 2001 (xi_psh (.int (1)) 2002) from xs_iconst hΓ dL_law_2001 (by decide)) ?_
      refine xw_ii (show xm_Imp g Γ 2002 (xi_ii (fun x y => x + y) 2003) from xs_iadd hΓ dL_law_2002) ?_
      obtain ⟨a514, ha514, e⟩ := e
      obtain ⟨v515, e1, e⟩ := e
      refine xw_hial (o := l0) (show xm_Imp g Γ 2003 (xi_ial 2004) from xs_ial hG hΓ dL_law_2003) ha514 e1 ?_
      refine xw_aldo (x := l0) (show xm_Imp g Γ 2004 (xi_ald 0 2005) from xs_aload_n hΓ dL_law_2004) rfl ?_
      refine xw_ild (show xm_Imp g Γ 2005 (xi_ild 5 2007) from xs_iload hΓ dL_law_2005) rfl ?_
      refine xw_psh (v := (.int (2))) (show xm_Imp g Γ 2007 (xi_psh (.int (2)) 2008) from xs_iconst hΓ dL_law_2007 (by decide)) ?_
      refine xw_ii (show xm_Imp g Γ 2008 (xi_ii (fun x y => x + y) 2009) from xs_iadd hΓ dL_law_2008) ?_
      obtain ⟨v516, e1, e⟩ := e
      refine xw_hial (o := l0) (show xm_Imp g Γ 2009 (xi_ial 2010) from xs_ial hG hΓ dL_law_2009) ha514 e1 ?_
      refine xw_aldo (x := l3) (show xm_Imp g Γ 2010 (xi_ald 3 2011) from xs_aload_n hΓ dL_law_2010) rfl ?_
      obtain ⟨m517, m518, ⟨em1, em2⟩, e⟩ := e
      refine xw_tsi4 (show xm_Imp g Γ 2011 (xi_inv g M_X0_partner 11 4 2014) from xs_invSW hG hΓ k_X0_partner rfl q2089 q2090 dL_law_2011) rfl em1 em2 (K_X0_partner hG l1 v515 v516 l3 _ _ _ e) (fun v520 h519 e => ?_)
      refine xw_ist (ls' := [some (va_rf l0), some (va_rf l1), some (va_rf l2), some (va_rf l3), some (va_rf l4), some (.int l5), some (.int v520), none, none]) (show xm_Imp g Γ 2014 (xi_ist 6 2016) from xs_istore hΓ dL_law_2014 (Nat.le_of_ble_eq_true rfl)) rfl ?_
      refine xw_aldo (x := l2) (show xm_Imp g Γ 2016 (xi_ald 2 2017) from xs_aload_n hΓ dL_law_2016) rfl ?_
      refine xw_aldo (x := l0) (show xm_Imp g Γ 2017 (xi_ald 0 2018) from xs_aload_n hΓ dL_law_2017) rfl ?_
      refine xw_ild (show xm_Imp g Γ 2018 (xi_ild 5 2020) from xs_iload hΓ dL_law_2018) rfl ?_
      refine xw_psh (v := (.int (1))) (show xm_Imp g Γ 2020 (xi_psh (.int (1)) 2021) from xs_iconst hΓ dL_law_2020 (by decide)) ?_
      refine xw_ii (show xm_Imp g Γ 2021 (xi_ii (fun x y => x + y) 2022) from xs_iadd hΓ dL_law_2021) ?_
      obtain ⟨v521, e1, e⟩ := e
      refine xw_hial (o := l0) (show xm_Imp g Γ 2022 (xi_ial 2023) from xs_ial hG hΓ dL_law_2022) ha514 e1 ?_
      refine xw_aldo (x := l0) (show xm_Imp g Γ 2023 (xi_ald 0 2024) from xs_aload_n hΓ dL_law_2023) rfl ?_
      refine xw_ild (show xm_Imp g Γ 2024 (xi_ild 5 2026) from xs_iload hΓ dL_law_2024) rfl ?_
      refine xw_psh (v := (.int (2))) (show xm_Imp g Γ 2026 (xi_psh (.int (2)) 2027) from xs_iconst hΓ dL_law_2026 (by decide)) ?_
      refine xw_ii (show xm_Imp g Γ 2027 (xi_ii (fun x y => x + y) 2028) from xs_iadd hΓ dL_law_2027) ?_
      obtain ⟨v522, e1, e⟩ := e
      refine xw_hial (o := l0) (show xm_Imp g Γ 2028 (xi_ial 2029) from xs_ial hG hΓ dL_law_2028) ha514 e1 ?_
      obtain ⟨a523, ha523, e⟩ := e
      obtain ⟨ad524, σ525, hMad524, hBad524, hhad524, e⟩ := e
      obtain ⟨v526, e1, e⟩ := e
      refine xw_hv2 (o := l2) (u := ()) (show xm_Imp g Γ 2029 (xi_vir g 4 M_X5_partner 5 2 2032) from xs_invV hG hΓ k_X5_partner rfl (ci := 4) rfl q3381 q3382 q3383 dL_law_2029) (by simp [xm_stk, xv_cat, xc_int, xc_long, xc_float, xc_double, xc_ref]) ha523 (xM_is hhad524) (xM_run hhad524 (fun Q X hQ => K_X5_partner hG hMad524 hBad524 v521 v522 σ525 e1 hQ)) ?_
      refine xw_ist (ls' := [some (va_rf l0), some (va_rf l1), some (va_rf l2), some (va_rf l3), some (va_rf l4), some (.int l5), some (.int v520), some (.int v526.1), none]) (show xm_Imp g Γ 2032 (xi_ist 7 2034) from xs_istore hΓ dL_law_2032 (Nat.le_of_ble_eq_true rfl)) rfl ?_
      refine xw_aldo (x := l2) (show xm_Imp g Γ 2034 (xi_ald 2 2035) from xs_aload_n hΓ dL_law_2034) rfl ?_
      obtain ⟨ad527, σ528, hMad527, hBad527, hhad527, e⟩ := e
      obtain ⟨v529, e1, e⟩ := e
      refine xw_hv0 (o := l2) (u := ()) (show xm_Imp g Γ 2035 (xi_vir g 4 M_X5_thrown 1 0 2038) from xs_invV hG hΓ k_X5_thrown rfl (ci := 4) rfl q2978 q2979 q2980 dL_law_2035) (by simp [xm_stk, xv_cat, xc_int, xc_long, xc_float, xc_double, xc_ref]) ha523 (xM_is hhad527) (xM_run0 hhad527 (fun Q X hQ => K_X5_thrown hG hMad527 hBad527 σ528 (Option.some.inj e1) hQ)) ?_
      refine xw_ild (show xm_Imp g Γ 2038 (xi_ild 6 2040) from xs_iload hΓ dL_law_2038) rfl ?_
      refine xw_ic (show xm_Imp g Γ 2040 (xi_ic (fun x y => x = y) 2045 2043) from xs_icmp_eq hΓ dL_law_2040 (by decide)) (fun c => ?_) (fun c => ?_)
      · rw [if_pos c] at e
        refine xw_ild (show xm_Imp g Γ 2045 (xi_ild 6 2047) from xs_iload hΓ dL_law_2045) rfl ?_
        refine xw_if (show xm_Imp g Γ 2047 (xi_if (fun x => x = 0) 2050 2062) from xs_if_ne hΓ dL_law_2047 (by decide)) (fun c => ?_) (fun c => ?_)
        · rw [if_pos c] at e
          refine xw_aldo (x := l3) (show xm_Imp g Γ 2050 (xi_ald 3 2051) from xs_aload_n hΓ dL_law_2050) rfl ?_
          refine xw_psh (v := (.int (0))) (show xm_Imp g Γ 2051 (xi_psh (.int (0)) 2052) from xs_iconst hΓ dL_law_2051 (by decide)) ?_
          obtain ⟨a530, ha530, e⟩ := e
          obtain ⟨v531, e1, e⟩ := e
          refine xw_hlal (o := l3) (show xm_Imp g Γ 2052 (xi_lal 2053) from xs_lal hG hΓ dL_law_2052) ha530 e1 ?_
          refine xw_ild (show xm_Imp g Γ 2053 (xi_ild 7 2055) from xs_iload hΓ dL_law_2053) rfl ?_
          refine xw_i2l (show xm_Imp g Γ 2055 (xi_i2l 2056) from xs_i2l hΓ dL_law_2055) ?_
          refine xw_lcmp (show xm_Imp g Γ 2056 (xi_lcmp 2057) from xs_lcmp hΓ dL_law_2056) ?_
          refine xw_if (show xm_Imp g Γ 2057 (xi_if (fun x => x = 0) 2062 2060) from xs_if_eq hΓ dL_law_2057 (by decide)) (fun c => ?_) (fun c => ?_)
          · rw [if_pos c] at e
            exact xm_lx (hB_2062 _ _ _ _ e) (And.intro rfl (And.intro rfl (And.intro rfl (And.intro rfl (And.intro rfl (And.intro rfl (trivial)))))))
          · rw [if_neg c] at e
            refine xw_psh (v := (.int (0))) (show xm_Imp g Γ 2060 (xi_psh (.int (0)) 2061) from xs_iconst hΓ dL_law_2060 (by decide)) ?_
            exact xw_iret (show xm_Imp g Γ 2061 (xi_iret .boolean _) from xs_ireturn hΓ rfl dL_law_2061) rfl ⟨_, rfl, e⟩
        · rw [if_neg c] at e
          exact xm_lx (hB_2062 _ _ _ _ e) (And.intro rfl (And.intro rfl (And.intro rfl (And.intro rfl (And.intro rfl (And.intro rfl (trivial)))))))
      · rw [if_neg c] at e
        refine xw_psh (v := (.int (0))) (show xm_Imp g Γ 2043 (xi_psh (.int (0)) 2044) from xs_iconst hΓ dL_law_2043 (by decide)) ?_
        exact xw_iret (show xm_Imp g Γ 2044 (xi_iret .boolean _) from xs_ireturn hΓ rfl dL_law_2044) rfl ⟨_, rfl, e⟩
    have hB_2118 : ∀ (l5 : Int32) (h : xm_H) (bc : Nat) (bs : Nat), B_L_law_2118 g l0 l1 l2 l3 l4 l5 h bc bs k28 Q → xm_W g Γ 2118 [some (va_rf l0), some (va_rf l1), some (va_rf l2), some (va_rf l3), some (va_rf l4), some (.int l5), none, none, none] [] h bc bs := by
      intro l5 h bc bs e
      unfold B_L_law_2118 at e
      refine xw_goto (show xm_Imp g Γ 2118 (xi_goto 2924) from xs_goto hΓ dL_law_2118 (by decide)) ?_
      exact hB_2924 _ _ _ _ e
    have hB_2065 : ∀ (l5 : Int32) (h : xm_H) (bc : Nat) (bs : Nat), B_L_law_2065 g l0 l1 l2 l3 l4 l5 h bc bs k28 Q → xm_W g Γ 2065 [some (va_rf l0), some (va_rf l1), some (va_rf l2), some (va_rf l3), some (va_rf l4), some (.int l5), none, none, none] [] h bc bs := by
      intro l5 h bc bs e
      unfold B_L_law_2065 at e
      refine xw_aldo (x := l1) (show xm_Imp g Γ 2065 (xi_ald 1 2066) from xs_aload_n hΓ dL_law_2065) rfl ?_
      refine xw_aldo (x := l0) (show xm_Imp g Γ 2066 (xi_ald 0 2067) from xs_aload_n hΓ dL_law_2066) rfl ?_
      refine xw_ild (show xm_Imp g Γ 2067 (xi_ild 5 2069) from xs_iload hΓ dL_law_2067) rfl ?_
      refine xw_psh (v := (.int (1))) (show xm_Imp g Γ 2069 (xi_psh (.int (1)) 2070) from xs_iconst hΓ dL_law_2069 (by decide)) ?_
      refine xw_ii (show xm_Imp g Γ 2070 (xi_ii (fun x y => x + y) 2071) from xs_iadd hΓ dL_law_2070) ?_
      obtain ⟨a532, ha532, e⟩ := e
      obtain ⟨v533, e1, e⟩ := e
      refine xw_hial (o := l0) (show xm_Imp g Γ 2071 (xi_ial 2072) from xs_ial hG hΓ dL_law_2071) ha532 e1 ?_
      refine xw_aldo (x := l3) (show xm_Imp g Γ 2072 (xi_ald 3 2073) from xs_aload_n hΓ dL_law_2072) rfl ?_
      obtain ⟨m534, m535, ⟨em1, em2⟩, e⟩ := e
      refine xw_tsi3 (show xm_Imp g Γ 2073 (xi_inv g M_X0_entropy 12 3 2076) from xs_invSW hG hΓ k_X0_entropy rfl q2096 q2097 dL_law_2073) rfl em1 em2 (K_X0_entropy hG l1 v533 l3 _ _ _ e) (fun v537 h536 e => ?_)
      refine xw_ist (ls' := [some (va_rf l0), some (va_rf l1), some (va_rf l2), some (va_rf l3), some (va_rf l4), some (.int l5), some (.int v537), none, none]) (show xm_Imp g Γ 2076 (xi_ist 6 2078) from xs_istore hΓ dL_law_2076 (Nat.le_of_ble_eq_true rfl)) rfl ?_
      refine xw_aldo (x := l2) (show xm_Imp g Γ 2078 (xi_ald 2 2079) from xs_aload_n hΓ dL_law_2078) rfl ?_
      refine xw_aldo (x := l0) (show xm_Imp g Γ 2079 (xi_ald 0 2080) from xs_aload_n hΓ dL_law_2079) rfl ?_
      refine xw_ild (show xm_Imp g Γ 2080 (xi_ild 5 2082) from xs_iload hΓ dL_law_2080) rfl ?_
      refine xw_psh (v := (.int (1))) (show xm_Imp g Γ 2082 (xi_psh (.int (1)) 2083) from xs_iconst hΓ dL_law_2082 (by decide)) ?_
      refine xw_ii (show xm_Imp g Γ 2083 (xi_ii (fun x y => x + y) 2084) from xs_iadd hΓ dL_law_2083) ?_
      obtain ⟨v538, e1, e⟩ := e
      refine xw_hial (o := l0) (show xm_Imp g Γ 2084 (xi_ial 2085) from xs_ial hG hΓ dL_law_2084) ha532 e1 ?_
      obtain ⟨a539, ha539, e⟩ := e
      obtain ⟨ad540, σ541, hMad540, hBad540, hhad540, e⟩ := e
      obtain ⟨v542, e1, e⟩ := e
      refine xw_hv1 (o := l2) (u := ()) (show xm_Imp g Γ 2085 (xi_vir g 4 M_X5_entropy 7 1 2088) from xs_invV hG hΓ k_X5_entropy rfl (ci := 4) rfl q3385 q3386 q3387 dL_law_2085) (by simp [xm_stk, xv_cat, xc_int, xc_long, xc_float, xc_double, xc_ref]) ha539 (xM_is hhad540) (xM_run hhad540 (fun Q X hQ => K_X5_entropy hG hMad540 hBad540 v538 σ541 e1 hQ)) ?_
      refine xw_ist (ls' := [some (va_rf l0), some (va_rf l1), some (va_rf l2), some (va_rf l3), some (va_rf l4), some (.int l5), some (.int v537), some (.int v542.1), none]) (show xm_Imp g Γ 2088 (xi_ist 7 2090) from xs_istore hΓ dL_law_2088 (Nat.le_of_ble_eq_true rfl)) rfl ?_
      refine xw_aldo (x := l2) (show xm_Imp g Γ 2090 (xi_ald 2 2091) from xs_aload_n hΓ dL_law_2090) rfl ?_
      obtain ⟨ad543, σ544, hMad543, hBad543, hhad543, e⟩ := e
      obtain ⟨v545, e1, e⟩ := e
      refine xw_hv0 (o := l2) (u := ()) (show xm_Imp g Γ 2091 (xi_vir g 4 M_X5_thrown 1 0 2094) from xs_invV hG hΓ k_X5_thrown rfl (ci := 4) rfl q2978 q2979 q2980 dL_law_2091) (by simp [xm_stk, xv_cat, xc_int, xc_long, xc_float, xc_double, xc_ref]) ha539 (xM_is hhad543) (xM_run0 hhad543 (fun Q X hQ => K_X5_thrown hG hMad543 hBad543 σ544 (Option.some.inj e1) hQ)) ?_
      refine xw_ild (show xm_Imp g Γ 2094 (xi_ild 6 2096) from xs_iload hΓ dL_law_2094) rfl ?_
      refine xw_ic (show xm_Imp g Γ 2096 (xi_ic (fun x y => x = y) 2101 2099) from xs_icmp_eq hΓ dL_law_2096 (by decide)) (fun c => ?_) (fun c => ?_)
      · rw [if_pos c] at e
        refine xw_ild (show xm_Imp g Γ 2101 (xi_ild 6 2103) from xs_iload hΓ dL_law_2101) rfl ?_
        refine xw_if (show xm_Imp g Γ 2103 (xi_if (fun x => x = 0) 2106 2118) from xs_if_ne hΓ dL_law_2103 (by decide)) (fun c => ?_) (fun c => ?_)
        · rw [if_pos c] at e
          refine xw_aldo (x := l3) (show xm_Imp g Γ 2106 (xi_ald 3 2107) from xs_aload_n hΓ dL_law_2106) rfl ?_
          refine xw_psh (v := (.int (0))) (show xm_Imp g Γ 2107 (xi_psh (.int (0)) 2108) from xs_iconst hΓ dL_law_2107 (by decide)) ?_
          obtain ⟨a546, ha546, e⟩ := e
          obtain ⟨v547, e1, e⟩ := e
          refine xw_hlal (o := l3) (show xm_Imp g Γ 2108 (xi_lal 2109) from xs_lal hG hΓ dL_law_2108) ha546 e1 ?_
          refine xw_ild (show xm_Imp g Γ 2109 (xi_ild 7 2111) from xs_iload hΓ dL_law_2109) rfl ?_
          refine xw_i2l (show xm_Imp g Γ 2111 (xi_i2l 2112) from xs_i2l hΓ dL_law_2111) ?_
          refine xw_lcmp (show xm_Imp g Γ 2112 (xi_lcmp 2113) from xs_lcmp hΓ dL_law_2112) ?_
          refine xw_if (show xm_Imp g Γ 2113 (xi_if (fun x => x = 0) 2118 2116) from xs_if_eq hΓ dL_law_2113 (by decide)) (fun c => ?_) (fun c => ?_)
          · rw [if_pos c] at e
            exact xm_lx (hB_2118 _ _ _ _ e) (And.intro rfl (And.intro rfl (And.intro rfl (And.intro rfl (And.intro rfl (And.intro rfl (trivial)))))))
          · rw [if_neg c] at e
            refine xw_psh (v := (.int (0))) (show xm_Imp g Γ 2116 (xi_psh (.int (0)) 2117) from xs_iconst hΓ dL_law_2116 (by decide)) ?_
            exact xw_iret (show xm_Imp g Γ 2117 (xi_iret .boolean _) from xs_ireturn hΓ rfl dL_law_2117) rfl ⟨_, rfl, e⟩
        · rw [if_neg c] at e
          exact xm_lx (hB_2118 _ _ _ _ e) (And.intro rfl (And.intro rfl (And.intro rfl (And.intro rfl (And.intro rfl (And.intro rfl (trivial)))))))
      · rw [if_neg c] at e
        refine xw_psh (v := (.int (0))) (show xm_Imp g Γ 2099 (xi_psh (.int (0)) 2100) from xs_iconst hΓ dL_law_2099 (by decide)) ?_
        exact xw_iret (show xm_Imp g Γ 2100 (xi_iret .boolean _) from xs_ireturn hΓ rfl dL_law_2100) rfl ⟨_, rfl, e⟩
    have hB_2121 : ∀ (l5 : Int32) (h : xm_H) (bc : Nat) (bs : Nat), B_L_law_2121 g l0 l1 l2 l3 l4 l5 h bc bs k28 Q → xm_W g Γ 2121 [some (va_rf l0), some (va_rf l1), some (va_rf l2), some (va_rf l3), some (va_rf l4), some (.int l5), none, none, none] [] h bc bs := by
      intro l5 h bc bs e
      unfold B_L_law_2121 at e
      refine xw_aldo (x := l1) (show xm_Imp g Γ 2121 (xi_ald 1 2122) from xs_aload_n hΓ dL_law_2121) rfl ?_
      obtain ⟨a548, ha548, e⟩ := e
      obtain ⟨_, e0, e⟩ := e
      obtain ⟨m549, m550, ⟨em1, em2⟩, e⟩ := e
      refine xw_tvi0 (o := l1) (show xm_Imp g Γ 2122 (xi_vir g 0 M_X1_freeQubits 11 0 2125) from xs_invV hG hΓ k_X1_freeQubits rfl (ci := 0) rfl q1664 q1665 q1666 dL_law_2122) (by simp [xm_stk, xv_cat, xc_int, xc_long, xc_float, xc_double, xc_ref]) ha548 e0 em1 em2 (K_X1_freeQubits hG a548 _ _ _ e) (fun v552 h551 e => ?_)
      refine xw_aldo (x := l2) (show xm_Imp g Γ 2125 (xi_ald 2 2126) from xs_aload_n hΓ dL_law_2125) rfl ?_
      obtain ⟨a553, ha553, e⟩ := e
      obtain ⟨ad554, σ555, hMad554, hBad554, hhad554, e⟩ := e
      obtain ⟨v556, e1, e⟩ := e
      refine xw_hv0 (o := l2) (u := ()) (show xm_Imp g Γ 2126 (xi_vir g 4 M_X5_freeQubits 7 0 2129) from xs_invV hG hΓ k_X5_freeQubits rfl (ci := 4) rfl q3400 q3401 q3402 dL_law_2126) (by simp [xm_stk, xv_cat, xc_int, xc_long, xc_float, xc_double, xc_ref]) ha553 (xM_is hhad554) (xM_run hhad554 (fun Q X hQ => K_X5_freeQubits hG hMad554 hBad554 σ555 e1 hQ)) ?_
      refine xw_ic (show xm_Imp g Γ 2129 (xi_ic (fun x y => x = y) 2924 2132) from xs_icmp_eq hΓ dL_law_2129 (by decide)) (fun c => ?_) (fun c => ?_)
      · rw [if_pos c] at e
        exact hB_2924 _ _ _ _ e
      · rw [if_neg c] at e
        refine xw_psh (v := (.int (0))) (show xm_Imp g Γ 2132 (xi_psh (.int (0)) 2133) from xs_iconst hΓ dL_law_2132 (by decide)) ?_
        exact xw_iret (show xm_Imp g Γ 2133 (xi_iret .boolean _) from xs_ireturn hΓ rfl dL_law_2133) rfl ⟨_, rfl, e⟩
    have hB_2187 : ∀ (l5 : Int32) (h : xm_H) (bc : Nat) (bs : Nat), B_L_law_2187 g l0 l1 l2 l3 l4 l5 h bc bs k28 Q → xm_W g Γ 2187 [some (va_rf l0), some (va_rf l1), some (va_rf l2), some (va_rf l3), some (va_rf l4), some (.int l5), none, none, none] [] h bc bs := by
      intro l5 h bc bs e
      unfold B_L_law_2187 at e
      refine xw_goto (show xm_Imp g Γ 2187 (xi_goto 2924) from xs_goto hΓ dL_law_2187 (by decide)) ?_
      exact hB_2924 _ _ _ _ e
    have hB_2134 : ∀ (l5 : Int32) (h : xm_H) (bc : Nat) (bs : Nat), B_L_law_2134 g l0 l1 l2 l3 l4 l5 h bc bs k28 Q → xm_W g Γ 2134 [some (va_rf l0), some (va_rf l1), some (va_rf l2), some (va_rf l3), some (va_rf l4), some (.int l5), none, none, none] [] h bc bs := by
      intro l5 h bc bs e
      unfold B_L_law_2134 at e
      refine xw_aldo (x := l1) (show xm_Imp g Γ 2134 (xi_ald 1 2135) from xs_aload_n hΓ dL_law_2134) rfl ?_
      refine xw_aldo (x := l0) (show xm_Imp g Γ 2135 (xi_ald 0 2136) from xs_aload_n hΓ dL_law_2135) rfl ?_
      refine xw_ild (show xm_Imp g Γ 2136 (xi_ild 5 2138) from xs_iload hΓ dL_law_2136) rfl ?_
      refine xw_psh (v := (.int (1))) (show xm_Imp g Γ 2138 (xi_psh (.int (1)) 2139) from xs_iconst hΓ dL_law_2138 (by decide)) ?_
      refine xw_ii (show xm_Imp g Γ 2139 (xi_ii (fun x y => x + y) 2140) from xs_iadd hΓ dL_law_2139) ?_
      obtain ⟨a557, ha557, e⟩ := e
      obtain ⟨v558, e1, e⟩ := e
      refine xw_hial (o := l0) (show xm_Imp g Γ 2140 (xi_ial 2141) from xs_ial hG hΓ dL_law_2140) ha557 e1 ?_
      refine xw_aldo (x := l3) (show xm_Imp g Γ 2141 (xi_ald 3 2142) from xs_aload_n hΓ dL_law_2141) rfl ?_
      obtain ⟨m559, m560, ⟨em1, em2⟩, e⟩ := e
      refine xw_tsi3 (show xm_Imp g Γ 2142 (xi_inv g M_X0_block 12 3 2145) from xs_invSW hG hΓ k_X0_block rfl q2103 q2104 dL_law_2142) rfl em1 em2 (K_X0_block hG l1 v558 l3 _ _ _ e) (fun v562 h561 e => ?_)
      refine xw_ist (ls' := [some (va_rf l0), some (va_rf l1), some (va_rf l2), some (va_rf l3), some (va_rf l4), some (.int l5), some (.int v562), none, none]) (show xm_Imp g Γ 2145 (xi_ist 6 2147) from xs_istore hΓ dL_law_2145 (Nat.le_of_ble_eq_true rfl)) rfl ?_
      refine xw_aldo (x := l2) (show xm_Imp g Γ 2147 (xi_ald 2 2148) from xs_aload_n hΓ dL_law_2147) rfl ?_
      refine xw_aldo (x := l0) (show xm_Imp g Γ 2148 (xi_ald 0 2149) from xs_aload_n hΓ dL_law_2148) rfl ?_
      refine xw_ild (show xm_Imp g Γ 2149 (xi_ild 5 2151) from xs_iload hΓ dL_law_2149) rfl ?_
      refine xw_psh (v := (.int (1))) (show xm_Imp g Γ 2151 (xi_psh (.int (1)) 2152) from xs_iconst hΓ dL_law_2151 (by decide)) ?_
      refine xw_ii (show xm_Imp g Γ 2152 (xi_ii (fun x y => x + y) 2153) from xs_iadd hΓ dL_law_2152) ?_
      obtain ⟨v563, e1, e⟩ := e
      refine xw_hial (o := l0) (show xm_Imp g Γ 2153 (xi_ial 2154) from xs_ial hG hΓ dL_law_2153) ha557 e1 ?_
      obtain ⟨a564, ha564, e⟩ := e
      obtain ⟨ad565, σ566, hMad565, hBad565, hhad565, e⟩ := e
      obtain ⟨v567, e1, e⟩ := e
      refine xw_hv1 (o := l2) (u := ()) (show xm_Imp g Γ 2154 (xi_vir g 4 M_X5_block 7 1 2157) from xs_invV hG hΓ k_X5_block rfl (ci := 4) rfl q3404 q3405 q3406 dL_law_2154) (by simp [xm_stk, xv_cat, xc_int, xc_long, xc_float, xc_double, xc_ref]) ha564 (xM_is hhad565) (xM_run hhad565 (fun Q X hQ => K_X5_block hG hMad565 hBad565 v563 σ566 e1 hQ)) ?_
      refine xw_ist (ls' := [some (va_rf l0), some (va_rf l1), some (va_rf l2), some (va_rf l3), some (va_rf l4), some (.int l5), some (.int v562), some (.int v567.1), none]) (show xm_Imp g Γ 2157 (xi_ist 7 2159) from xs_istore hΓ dL_law_2157 (Nat.le_of_ble_eq_true rfl)) rfl ?_
      refine xw_aldo (x := l2) (show xm_Imp g Γ 2159 (xi_ald 2 2160) from xs_aload_n hΓ dL_law_2159) rfl ?_
      obtain ⟨ad568, σ569, hMad568, hBad568, hhad568, e⟩ := e
      obtain ⟨v570, e1, e⟩ := e
      refine xw_hv0 (o := l2) (u := ()) (show xm_Imp g Γ 2160 (xi_vir g 4 M_X5_thrown 1 0 2163) from xs_invV hG hΓ k_X5_thrown rfl (ci := 4) rfl q2978 q2979 q2980 dL_law_2160) (by simp [xm_stk, xv_cat, xc_int, xc_long, xc_float, xc_double, xc_ref]) ha564 (xM_is hhad568) (xM_run0 hhad568 (fun Q X hQ => K_X5_thrown hG hMad568 hBad568 σ569 (Option.some.inj e1) hQ)) ?_
      refine xw_ild (show xm_Imp g Γ 2163 (xi_ild 6 2165) from xs_iload hΓ dL_law_2163) rfl ?_
      refine xw_ic (show xm_Imp g Γ 2165 (xi_ic (fun x y => x = y) 2170 2168) from xs_icmp_eq hΓ dL_law_2165 (by decide)) (fun c => ?_) (fun c => ?_)
      · rw [if_pos c] at e
        refine xw_ild (show xm_Imp g Γ 2170 (xi_ild 6 2172) from xs_iload hΓ dL_law_2170) rfl ?_
        refine xw_if (show xm_Imp g Γ 2172 (xi_if (fun x => x = 0) 2175 2187) from xs_if_ne hΓ dL_law_2172 (by decide)) (fun c => ?_) (fun c => ?_)
        · rw [if_pos c] at e
          refine xw_aldo (x := l3) (show xm_Imp g Γ 2175 (xi_ald 3 2176) from xs_aload_n hΓ dL_law_2175) rfl ?_
          refine xw_psh (v := (.int (0))) (show xm_Imp g Γ 2176 (xi_psh (.int (0)) 2177) from xs_iconst hΓ dL_law_2176 (by decide)) ?_
          obtain ⟨a571, ha571, e⟩ := e
          obtain ⟨v572, e1, e⟩ := e
          refine xw_hlal (o := l3) (show xm_Imp g Γ 2177 (xi_lal 2178) from xs_lal hG hΓ dL_law_2177) ha571 e1 ?_
          refine xw_ild (show xm_Imp g Γ 2178 (xi_ild 7 2180) from xs_iload hΓ dL_law_2178) rfl ?_
          refine xw_i2l (show xm_Imp g Γ 2180 (xi_i2l 2181) from xs_i2l hΓ dL_law_2180) ?_
          refine xw_lcmp (show xm_Imp g Γ 2181 (xi_lcmp 2182) from xs_lcmp hΓ dL_law_2181) ?_
          refine xw_if (show xm_Imp g Γ 2182 (xi_if (fun x => x = 0) 2187 2185) from xs_if_eq hΓ dL_law_2182 (by decide)) (fun c => ?_) (fun c => ?_)
          · rw [if_pos c] at e
            exact xm_lx (hB_2187 _ _ _ _ e) (And.intro rfl (And.intro rfl (And.intro rfl (And.intro rfl (And.intro rfl (And.intro rfl (trivial)))))))
          · rw [if_neg c] at e
            refine xw_psh (v := (.int (0))) (show xm_Imp g Γ 2185 (xi_psh (.int (0)) 2186) from xs_iconst hΓ dL_law_2185 (by decide)) ?_
            exact xw_iret (show xm_Imp g Γ 2186 (xi_iret .boolean _) from xs_ireturn hΓ rfl dL_law_2186) rfl ⟨_, rfl, e⟩
        · rw [if_neg c] at e
          exact xm_lx (hB_2187 _ _ _ _ e) (And.intro rfl (And.intro rfl (And.intro rfl (And.intro rfl (And.intro rfl (And.intro rfl (trivial)))))))
      · rw [if_neg c] at e
        refine xw_psh (v := (.int (0))) (show xm_Imp g Γ 2168 (xi_psh (.int (0)) 2169) from xs_iconst hΓ dL_law_2168 (by decide)) ?_
        exact xw_iret (show xm_Imp g Γ 2169 (xi_iret .boolean _) from xs_ireturn hΓ rfl dL_law_2169) rfl ⟨_, rfl, e⟩
    have hB_2255 : ∀ (l5 : Int32) (h : xm_H) (bc : Nat) (bs : Nat), B_L_law_2255 g l0 l1 l2 l3 l4 l5 h bc bs k28 Q → xm_W g Γ 2255 [some (va_rf l0), some (va_rf l1), some (va_rf l2), some (va_rf l3), some (va_rf l4), some (.int l5), none, none, none] [] h bc bs := by
      intro l5 h bc bs e
      unfold B_L_law_2255 at e
      refine xw_goto (show xm_Imp g Γ 2255 (xi_goto 2924) from xs_goto hΓ dL_law_2255 (by decide)) ?_
      exact hB_2924 _ _ _ _ e
    have hB_2190 : ∀ (l5 : Int32) (h : xm_H) (bc : Nat) (bs : Nat), B_L_law_2190 g l0 l1 l2 l3 l4 l5 h bc bs k28 Q → xm_W g Γ 2190 [some (va_rf l0), some (va_rf l1), some (va_rf l2), some (va_rf l3), some (va_rf l4), some (.int l5), none, none, none] [] h bc bs := by
      intro l5 h bc bs e
      unfold B_L_law_2190 at e
      refine xw_aldo (x := l1) (show xm_Imp g Γ 2190 (xi_ald 1 2191) from xs_aload_n hΓ dL_law_2190) rfl ?_
      refine xw_aldo (x := l0) (show xm_Imp g Γ 2191 (xi_ald 0 2192) from xs_aload_n hΓ dL_law_2191) rfl ?_
      refine xw_ild (show xm_Imp g Γ 2192 (xi_ild 5 2194) from xs_iload hΓ dL_law_2192) rfl ?_
      refine xw_psh (v := (.int (1))) (show xm_Imp g Γ 2194 (xi_psh (.int (1)) 2195) from xs_iconst hΓ dL_law_2194 (by decide)) ?_
      refine xw_ii (show xm_Imp g Γ 2195 (xi_ii (fun x y => x + y) 2196) from xs_iadd hΓ dL_law_2195) ?_
      obtain ⟨a573, ha573, e⟩ := e
      obtain ⟨v574, e1, e⟩ := e
      refine xw_hial (o := l0) (show xm_Imp g Γ 2196 (xi_ial 2197) from xs_ial hG hΓ dL_law_2196) ha573 e1 ?_
      refine xw_aldo (x := l0) (show xm_Imp g Γ 2197 (xi_ald 0 2198) from xs_aload_n hΓ dL_law_2197) rfl ?_
      refine xw_ild (show xm_Imp g Γ 2198 (xi_ild 5 2200) from xs_iload hΓ dL_law_2198) rfl ?_
      refine xw_psh (v := (.int (2))) (show xm_Imp g Γ 2200 (xi_psh (.int (2)) 2201) from xs_iconst hΓ dL_law_2200 (by decide)) ?_
      refine xw_ii (show xm_Imp g Γ 2201 (xi_ii (fun x y => x + y) 2202) from xs_iadd hΓ dL_law_2201) ?_
      obtain ⟨v575, e1, e⟩ := e
      refine xw_hial (o := l0) (show xm_Imp g Γ 2202 (xi_ial 2203) from xs_ial hG hΓ dL_law_2202) ha573 e1 ?_
      refine xw_aldo (x := l3) (show xm_Imp g Γ 2203 (xi_ald 3 2204) from xs_aload_n hΓ dL_law_2203) rfl ?_
      obtain ⟨m576, m577, ⟨em1, em2⟩, e⟩ := e
      refine xw_tsi4 (show xm_Imp g Γ 2204 (xi_inv g M_X0_shared 12 4 2207) from xs_invSW hG hΓ k_X0_shared rfl q2110 q2111 dL_law_2204) rfl em1 em2 (K_X0_shared hG l1 v574 v575 l3 _ _ _ e) (fun v579 h578 e => ?_)
      refine xw_ist (ls' := [some (va_rf l0), some (va_rf l1), some (va_rf l2), some (va_rf l3), some (va_rf l4), some (.int l5), some (.int v579), none, none]) (show xm_Imp g Γ 2207 (xi_ist 6 2209) from xs_istore hΓ dL_law_2207 (Nat.le_of_ble_eq_true rfl)) rfl ?_
      refine xw_aldo (x := l2) (show xm_Imp g Γ 2209 (xi_ald 2 2210) from xs_aload_n hΓ dL_law_2209) rfl ?_
      refine xw_aldo (x := l0) (show xm_Imp g Γ 2210 (xi_ald 0 2211) from xs_aload_n hΓ dL_law_2210) rfl ?_
      refine xw_ild (show xm_Imp g Γ 2211 (xi_ild 5 2213) from xs_iload hΓ dL_law_2211) rfl ?_
      refine xw_psh (v := (.int (1))) (show xm_Imp g Γ 2213 (xi_psh (.int (1)) 2214) from xs_iconst hΓ dL_law_2213 (by decide)) ?_
      refine xw_ii (show xm_Imp g Γ 2214 (xi_ii (fun x y => x + y) 2215) from xs_iadd hΓ dL_law_2214) ?_
      obtain ⟨v580, e1, e⟩ := e
      refine xw_hial (o := l0) (show xm_Imp g Γ 2215 (xi_ial 2216) from xs_ial hG hΓ dL_law_2215) ha573 e1 ?_
      refine xw_aldo (x := l0) (show xm_Imp g Γ 2216 (xi_ald 0 2217) from xs_aload_n hΓ dL_law_2216) rfl ?_
      refine xw_ild (show xm_Imp g Γ 2217 (xi_ild 5 2219) from xs_iload hΓ dL_law_2217) rfl ?_
      refine xw_psh (v := (.int (2))) (show xm_Imp g Γ 2219 (xi_psh (.int (2)) 2220) from xs_iconst hΓ dL_law_2219 (by decide)) ?_
      refine xw_ii (show xm_Imp g Γ 2220 (xi_ii (fun x y => x + y) 2221) from xs_iadd hΓ dL_law_2220) ?_
      obtain ⟨v581, e1, e⟩ := e
      refine xw_hial (o := l0) (show xm_Imp g Γ 2221 (xi_ial 2222) from xs_ial hG hΓ dL_law_2221) ha573 e1 ?_
      obtain ⟨a582, ha582, e⟩ := e
      obtain ⟨ad583, σ584, hMad583, hBad583, hhad583, e⟩ := e
      obtain ⟨v585, e1, e⟩ := e
      refine xw_hv2 (o := l2) (u := ()) (show xm_Imp g Γ 2222 (xi_vir g 4 M_X5_shared 7 2 2225) from xs_invV hG hΓ k_X5_shared rfl (ci := 4) rfl q3408 q3409 q3410 dL_law_2222) (by simp [xm_stk, xv_cat, xc_int, xc_long, xc_float, xc_double, xc_ref]) ha582 (xM_is hhad583) (xM_run hhad583 (fun Q X hQ => K_X5_shared hG hMad583 hBad583 v580 v581 σ584 e1 hQ)) ?_
      refine xw_ist (ls' := [some (va_rf l0), some (va_rf l1), some (va_rf l2), some (va_rf l3), some (va_rf l4), some (.int l5), some (.int v579), some (.int v585.1), none]) (show xm_Imp g Γ 2225 (xi_ist 7 2227) from xs_istore hΓ dL_law_2225 (Nat.le_of_ble_eq_true rfl)) rfl ?_
      refine xw_aldo (x := l2) (show xm_Imp g Γ 2227 (xi_ald 2 2228) from xs_aload_n hΓ dL_law_2227) rfl ?_
      obtain ⟨ad586, σ587, hMad586, hBad586, hhad586, e⟩ := e
      obtain ⟨v588, e1, e⟩ := e
      refine xw_hv0 (o := l2) (u := ()) (show xm_Imp g Γ 2228 (xi_vir g 4 M_X5_thrown 1 0 2231) from xs_invV hG hΓ k_X5_thrown rfl (ci := 4) rfl q2978 q2979 q2980 dL_law_2228) (by simp [xm_stk, xv_cat, xc_int, xc_long, xc_float, xc_double, xc_ref]) ha582 (xM_is hhad586) (xM_run0 hhad586 (fun Q X hQ => K_X5_thrown hG hMad586 hBad586 σ587 (Option.some.inj e1) hQ)) ?_
      refine xw_ild (show xm_Imp g Γ 2231 (xi_ild 6 2233) from xs_iload hΓ dL_law_2231) rfl ?_
      refine xw_ic (show xm_Imp g Γ 2233 (xi_ic (fun x y => x = y) 2238 2236) from xs_icmp_eq hΓ dL_law_2233 (by decide)) (fun c => ?_) (fun c => ?_)
      · rw [if_pos c] at e
        refine xw_ild (show xm_Imp g Γ 2238 (xi_ild 6 2240) from xs_iload hΓ dL_law_2238) rfl ?_
        refine xw_if (show xm_Imp g Γ 2240 (xi_if (fun x => x = 0) 2243 2255) from xs_if_ne hΓ dL_law_2240 (by decide)) (fun c => ?_) (fun c => ?_)
        · rw [if_pos c] at e
          refine xw_aldo (x := l3) (show xm_Imp g Γ 2243 (xi_ald 3 2244) from xs_aload_n hΓ dL_law_2243) rfl ?_
          refine xw_psh (v := (.int (0))) (show xm_Imp g Γ 2244 (xi_psh (.int (0)) 2245) from xs_iconst hΓ dL_law_2244 (by decide)) ?_
          obtain ⟨a589, ha589, e⟩ := e
          obtain ⟨v590, e1, e⟩ := e
          refine xw_hlal (o := l3) (show xm_Imp g Γ 2245 (xi_lal 2246) from xs_lal hG hΓ dL_law_2245) ha589 e1 ?_
          refine xw_ild (show xm_Imp g Γ 2246 (xi_ild 7 2248) from xs_iload hΓ dL_law_2246) rfl ?_
          refine xw_i2l (show xm_Imp g Γ 2248 (xi_i2l 2249) from xs_i2l hΓ dL_law_2248) ?_
          refine xw_lcmp (show xm_Imp g Γ 2249 (xi_lcmp 2250) from xs_lcmp hΓ dL_law_2249) ?_
          refine xw_if (show xm_Imp g Γ 2250 (xi_if (fun x => x = 0) 2255 2253) from xs_if_eq hΓ dL_law_2250 (by decide)) (fun c => ?_) (fun c => ?_)
          · rw [if_pos c] at e
            exact xm_lx (hB_2255 _ _ _ _ e) (And.intro rfl (And.intro rfl (And.intro rfl (And.intro rfl (And.intro rfl (And.intro rfl (trivial)))))))
          · rw [if_neg c] at e
            refine xw_psh (v := (.int (0))) (show xm_Imp g Γ 2253 (xi_psh (.int (0)) 2254) from xs_iconst hΓ dL_law_2253 (by decide)) ?_
            exact xw_iret (show xm_Imp g Γ 2254 (xi_iret .boolean _) from xs_ireturn hΓ rfl dL_law_2254) rfl ⟨_, rfl, e⟩
        · rw [if_neg c] at e
          exact xm_lx (hB_2255 _ _ _ _ e) (And.intro rfl (And.intro rfl (And.intro rfl (And.intro rfl (And.intro rfl (And.intro rfl (trivial)))))))
      · rw [if_neg c] at e
        refine xw_psh (v := (.int (0))) (show xm_Imp g Γ 2236 (xi_psh (.int (0)) 2237) from xs_iconst hΓ dL_law_2236 (by decide)) ?_
        exact xw_iret (show xm_Imp g Γ 2237 (xi_iret .boolean _) from xs_ireturn hΓ rfl dL_law_2237) rfl ⟨_, rfl, e⟩
    have hB_2299 : ∀ (l5 : Int32) (h : xm_H) (bc : Nat) (bs : Nat), B_L_law_2299 g l0 l1 l2 l3 l4 l5 h bc bs k28 Q → xm_W g Γ 2299 [some (va_rf l0), some (va_rf l1), some (va_rf l2), some (va_rf l3), some (va_rf l4), some (.int l5), none, none, none] [] h bc bs := by
      intro l5 h bc bs e
      unfold B_L_law_2299 at e
      refine xw_goto (show xm_Imp g Γ 2299 (xi_goto 2924) from xs_goto hΓ dL_law_2299 (by decide)) ?_
      exact hB_2924 _ _ _ _ e
    have hB_2258 : ∀ (l5 : Int32) (h : xm_H) (bc : Nat) (bs : Nat), B_L_law_2258 g l0 l1 l2 l3 l4 l5 h bc bs k28 Q → xm_W g Γ 2258 [some (va_rf l0), some (va_rf l1), some (va_rf l2), some (va_rf l3), some (va_rf l4), some (.int l5), none, none, none] [] h bc bs := by
      intro l5 h bc bs e
      unfold B_L_law_2258 at e
      refine xw_aldo (x := l1) (show xm_Imp g Γ 2258 (xi_ald 1 2259) from xs_aload_n hΓ dL_law_2258) rfl ?_
      refine xw_aldo (x := l3) (show xm_Imp g Γ 2259 (xi_ald 3 2260) from xs_aload_n hΓ dL_law_2259) rfl ?_
      obtain ⟨m591, m592, ⟨em1, em2⟩, e⟩ := e
      refine xw_tsi2 (show xm_Imp g Γ 2260 (xi_inv g M_X0_closestPair 12 2 2263) from xs_invSW hG hΓ k_X0_closestPair rfl q2117 q2118 dL_law_2260) rfl em1 em2 (K_X0_closestPair hG l1 l3 _ _ _ e) (fun v594 h593 e => ?_)
      refine xw_ist (ls' := [some (va_rf l0), some (va_rf l1), some (va_rf l2), some (va_rf l3), some (va_rf l4), some (.int l5), some (.int v594), none, none]) (show xm_Imp g Γ 2263 (xi_ist 6 2265) from xs_istore hΓ dL_law_2263 (Nat.le_of_ble_eq_true rfl)) rfl ?_
      refine xw_aldo (x := l2) (show xm_Imp g Γ 2265 (xi_ald 2 2266) from xs_aload_n hΓ dL_law_2265) rfl ?_
      obtain ⟨a595, ha595, e⟩ := e
      obtain ⟨ad596, σ597, hMad596, hBad596, hhad596, e⟩ := e
      obtain ⟨v598, e1, e⟩ := e
      refine xw_hv0 (o := l2) (u := ()) (show xm_Imp g Γ 2266 (xi_vir g 4 M_X5_closestPair 7 0 2269) from xs_invV hG hΓ k_X5_closestPair rfl (ci := 4) rfl q3416 q3417 q3418 dL_law_2266) (by simp [xm_stk, xv_cat, xc_int, xc_long, xc_float, xc_double, xc_ref]) ha595 (xM_is hhad596) (xM_run hhad596 (fun Q X hQ => K_X5_closestPair hG hMad596 hBad596 σ597 e1 hQ)) ?_
      refine xw_ist (ls' := [some (va_rf l0), some (va_rf l1), some (va_rf l2), some (va_rf l3), some (va_rf l4), some (.int l5), some (.int v594), some (.int v598.1), none]) (show xm_Imp g Γ 2269 (xi_ist 7 2271) from xs_istore hΓ dL_law_2269 (Nat.le_of_ble_eq_true rfl)) rfl ?_
      refine xw_aldo (x := l2) (show xm_Imp g Γ 2271 (xi_ald 2 2272) from xs_aload_n hΓ dL_law_2271) rfl ?_
      obtain ⟨ad599, σ600, hMad599, hBad599, hhad599, e⟩ := e
      obtain ⟨v601, e1, e⟩ := e
      refine xw_hv0 (o := l2) (u := ()) (show xm_Imp g Γ 2272 (xi_vir g 4 M_X5_thrown 1 0 2275) from xs_invV hG hΓ k_X5_thrown rfl (ci := 4) rfl q2978 q2979 q2980 dL_law_2272) (by simp [xm_stk, xv_cat, xc_int, xc_long, xc_float, xc_double, xc_ref]) ha595 (xM_is hhad599) (xM_run0 hhad599 (fun Q X hQ => K_X5_thrown hG hMad599 hBad599 σ600 (Option.some.inj e1) hQ)) ?_
      refine xw_ild (show xm_Imp g Γ 2275 (xi_ild 6 2277) from xs_iload hΓ dL_law_2275) rfl ?_
      refine xw_ic (show xm_Imp g Γ 2277 (xi_ic (fun x y => x = y) 2282 2280) from xs_icmp_eq hΓ dL_law_2277 (by decide)) (fun c => ?_) (fun c => ?_)
      · rw [if_pos c] at e
        refine xw_ild (show xm_Imp g Γ 2282 (xi_ild 6 2284) from xs_iload hΓ dL_law_2282) rfl ?_
        refine xw_if (show xm_Imp g Γ 2284 (xi_if (fun x => x = 0) 2287 2299) from xs_if_ne hΓ dL_law_2284 (by decide)) (fun c => ?_) (fun c => ?_)
        · rw [if_pos c] at e
          refine xw_aldo (x := l3) (show xm_Imp g Γ 2287 (xi_ald 3 2288) from xs_aload_n hΓ dL_law_2287) rfl ?_
          refine xw_psh (v := (.int (0))) (show xm_Imp g Γ 2288 (xi_psh (.int (0)) 2289) from xs_iconst hΓ dL_law_2288 (by decide)) ?_
          obtain ⟨a602, ha602, e⟩ := e
          obtain ⟨v603, e1, e⟩ := e
          refine xw_hlal (o := l3) (show xm_Imp g Γ 2289 (xi_lal 2290) from xs_lal hG hΓ dL_law_2289) ha602 e1 ?_
          refine xw_ild (show xm_Imp g Γ 2290 (xi_ild 7 2292) from xs_iload hΓ dL_law_2290) rfl ?_
          refine xw_i2l (show xm_Imp g Γ 2292 (xi_i2l 2293) from xs_i2l hΓ dL_law_2292) ?_
          refine xw_lcmp (show xm_Imp g Γ 2293 (xi_lcmp 2294) from xs_lcmp hΓ dL_law_2293) ?_
          refine xw_if (show xm_Imp g Γ 2294 (xi_if (fun x => x = 0) 2299 2297) from xs_if_eq hΓ dL_law_2294 (by decide)) (fun c => ?_) (fun c => ?_)
          · rw [if_pos c] at e
            exact xm_lx (hB_2299 _ _ _ _ e) (And.intro rfl (And.intro rfl (And.intro rfl (And.intro rfl (And.intro rfl (And.intro rfl (trivial)))))))
          · rw [if_neg c] at e
            refine xw_psh (v := (.int (0))) (show xm_Imp g Γ 2297 (xi_psh (.int (0)) 2298) from xs_iconst hΓ dL_law_2297 (by decide)) ?_
            exact xw_iret (show xm_Imp g Γ 2298 (xi_iret .boolean _) from xs_ireturn hΓ rfl dL_law_2298) rfl ⟨_, rfl, e⟩
        · rw [if_neg c] at e
          exact xm_lx (hB_2299 _ _ _ _ e) (And.intro rfl (And.intro rfl (And.intro rfl (And.intro rfl (And.intro rfl (And.intro rfl (trivial)))))))
      · rw [if_neg c] at e
        refine xw_psh (v := (.int (0))) (show xm_Imp g Γ 2280 (xi_psh (.int (0)) 2281) from xs_iconst hΓ dL_law_2280 (by decide)) ?_
        exact xw_iret (show xm_Imp g Γ 2281 (xi_iret .boolean _) from xs_ireturn hΓ rfl dL_law_2281) rfl ⟨_, rfl, e⟩
    have hB_2355 : ∀ (l5 : Int32) (h : xm_H) (bc : Nat) (bs : Nat), B_L_law_2355 g l0 l1 l2 l3 l4 l5 h bc bs k28 Q → xm_W g Γ 2355 [some (va_rf l0), some (va_rf l1), some (va_rf l2), some (va_rf l3), some (va_rf l4), some (.int l5), none, none, none] [] h bc bs := by
      intro l5 h bc bs e
      unfold B_L_law_2355 at e
      refine xw_goto (show xm_Imp g Γ 2355 (xi_goto 2924) from xs_goto hΓ dL_law_2355 (by decide)) ?_
      exact hB_2924 _ _ _ _ e
    have hB_2302 : ∀ (l5 : Int32) (h : xm_H) (bc : Nat) (bs : Nat), B_L_law_2302 g l0 l1 l2 l3 l4 l5 h bc bs k28 Q → xm_W g Γ 2302 [some (va_rf l0), some (va_rf l1), some (va_rf l2), some (va_rf l3), some (va_rf l4), some (.int l5), none, none, none] [] h bc bs := by
      intro l5 h bc bs e
      unfold B_L_law_2302 at e
      refine xw_aldo (x := l1) (show xm_Imp g Γ 2302 (xi_ald 1 2303) from xs_aload_n hΓ dL_law_2302) rfl ?_
      refine xw_aldo (x := l0) (show xm_Imp g Γ 2303 (xi_ald 0 2304) from xs_aload_n hΓ dL_law_2303) rfl ?_
      refine xw_ild (show xm_Imp g Γ 2304 (xi_ild 5 2306) from xs_iload hΓ dL_law_2304) rfl ?_
      refine xw_psh (v := (.int (1))) (show xm_Imp g Γ 2306 (xi_psh (.int (1)) 2307) from xs_iconst hΓ dL_law_2306 (by decide)) ?_
      refine xw_ii (show xm_Imp g Γ 2307 (xi_ii (fun x y => x + y) 2308) from xs_iadd hΓ dL_law_2307) ?_
      obtain ⟨a604, ha604, e⟩ := e
      obtain ⟨v605, e1, e⟩ := e
      refine xw_hial (o := l0) (show xm_Imp g Γ 2308 (xi_ial 2309) from xs_ial hG hΓ dL_law_2308) ha604 e1 ?_
      refine xw_aldo (x := l3) (show xm_Imp g Γ 2309 (xi_ald 3 2310) from xs_aload_n hΓ dL_law_2309) rfl ?_
      obtain ⟨m606, m607, ⟨em1, em2⟩, e⟩ := e
      refine xw_tsi3 (show xm_Imp g Γ 2310 (xi_inv g M_X0_mostEntangled 12 3 2313) from xs_invSW hG hΓ k_X0_mostEntangled rfl q2124 q2125 dL_law_2310) rfl em1 em2 (K_X0_mostEntangled hG l1 v605 l3 _ _ _ e) (fun v609 h608 e => ?_)
      refine xw_ist (ls' := [some (va_rf l0), some (va_rf l1), some (va_rf l2), some (va_rf l3), some (va_rf l4), some (.int l5), some (.int v609), none, none]) (show xm_Imp g Γ 2313 (xi_ist 6 2315) from xs_istore hΓ dL_law_2313 (Nat.le_of_ble_eq_true rfl)) rfl ?_
      refine xw_aldo (x := l2) (show xm_Imp g Γ 2315 (xi_ald 2 2316) from xs_aload_n hΓ dL_law_2315) rfl ?_
      refine xw_aldo (x := l0) (show xm_Imp g Γ 2316 (xi_ald 0 2317) from xs_aload_n hΓ dL_law_2316) rfl ?_
      refine xw_ild (show xm_Imp g Γ 2317 (xi_ild 5 2319) from xs_iload hΓ dL_law_2317) rfl ?_
      refine xw_psh (v := (.int (1))) (show xm_Imp g Γ 2319 (xi_psh (.int (1)) 2320) from xs_iconst hΓ dL_law_2319 (by decide)) ?_
      refine xw_ii (show xm_Imp g Γ 2320 (xi_ii (fun x y => x + y) 2321) from xs_iadd hΓ dL_law_2320) ?_
      obtain ⟨v610, e1, e⟩ := e
      refine xw_hial (o := l0) (show xm_Imp g Γ 2321 (xi_ial 2322) from xs_ial hG hΓ dL_law_2321) ha604 e1 ?_
      obtain ⟨a611, ha611, e⟩ := e
      obtain ⟨ad612, σ613, hMad612, hBad612, hhad612, e⟩ := e
      obtain ⟨v614, e1, e⟩ := e
      refine xw_hv1 (o := l2) (u := ()) (show xm_Imp g Γ 2322 (xi_vir g 4 M_X5_mostEntangled 7 1 2325) from xs_invV hG hΓ k_X5_mostEntangled rfl (ci := 4) rfl q3412 q3413 q3414 dL_law_2322) (by simp [xm_stk, xv_cat, xc_int, xc_long, xc_float, xc_double, xc_ref]) ha611 (xM_is hhad612) (xM_run hhad612 (fun Q X hQ => K_X5_mostEntangled hG hMad612 hBad612 v610 σ613 e1 hQ)) ?_
      refine xw_ist (ls' := [some (va_rf l0), some (va_rf l1), some (va_rf l2), some (va_rf l3), some (va_rf l4), some (.int l5), some (.int v609), some (.int v614.1), none]) (show xm_Imp g Γ 2325 (xi_ist 7 2327) from xs_istore hΓ dL_law_2325 (Nat.le_of_ble_eq_true rfl)) rfl ?_
      refine xw_aldo (x := l2) (show xm_Imp g Γ 2327 (xi_ald 2 2328) from xs_aload_n hΓ dL_law_2327) rfl ?_
      obtain ⟨ad615, σ616, hMad615, hBad615, hhad615, e⟩ := e
      obtain ⟨v617, e1, e⟩ := e
      refine xw_hv0 (o := l2) (u := ()) (show xm_Imp g Γ 2328 (xi_vir g 4 M_X5_thrown 1 0 2331) from xs_invV hG hΓ k_X5_thrown rfl (ci := 4) rfl q2978 q2979 q2980 dL_law_2328) (by simp [xm_stk, xv_cat, xc_int, xc_long, xc_float, xc_double, xc_ref]) ha611 (xM_is hhad615) (xM_run0 hhad615 (fun Q X hQ => K_X5_thrown hG hMad615 hBad615 σ616 (Option.some.inj e1) hQ)) ?_
      refine xw_ild (show xm_Imp g Γ 2331 (xi_ild 6 2333) from xs_iload hΓ dL_law_2331) rfl ?_
      refine xw_ic (show xm_Imp g Γ 2333 (xi_ic (fun x y => x = y) 2338 2336) from xs_icmp_eq hΓ dL_law_2333 (by decide)) (fun c => ?_) (fun c => ?_)
      · rw [if_pos c] at e
        refine xw_ild (show xm_Imp g Γ 2338 (xi_ild 6 2340) from xs_iload hΓ dL_law_2338) rfl ?_
        refine xw_if (show xm_Imp g Γ 2340 (xi_if (fun x => x = 0) 2343 2355) from xs_if_ne hΓ dL_law_2340 (by decide)) (fun c => ?_) (fun c => ?_)
        · rw [if_pos c] at e
          refine xw_aldo (x := l3) (show xm_Imp g Γ 2343 (xi_ald 3 2344) from xs_aload_n hΓ dL_law_2343) rfl ?_
          refine xw_psh (v := (.int (0))) (show xm_Imp g Γ 2344 (xi_psh (.int (0)) 2345) from xs_iconst hΓ dL_law_2344 (by decide)) ?_
          obtain ⟨a618, ha618, e⟩ := e
          obtain ⟨v619, e1, e⟩ := e
          refine xw_hlal (o := l3) (show xm_Imp g Γ 2345 (xi_lal 2346) from xs_lal hG hΓ dL_law_2345) ha618 e1 ?_
          refine xw_ild (show xm_Imp g Γ 2346 (xi_ild 7 2348) from xs_iload hΓ dL_law_2346) rfl ?_
          refine xw_i2l (show xm_Imp g Γ 2348 (xi_i2l 2349) from xs_i2l hΓ dL_law_2348) ?_
          refine xw_lcmp (show xm_Imp g Γ 2349 (xi_lcmp 2350) from xs_lcmp hΓ dL_law_2349) ?_
          refine xw_if (show xm_Imp g Γ 2350 (xi_if (fun x => x = 0) 2355 2353) from xs_if_eq hΓ dL_law_2350 (by decide)) (fun c => ?_) (fun c => ?_)
          · rw [if_pos c] at e
            exact xm_lx (hB_2355 _ _ _ _ e) (And.intro rfl (And.intro rfl (And.intro rfl (And.intro rfl (And.intro rfl (And.intro rfl (trivial)))))))
          · rw [if_neg c] at e
            refine xw_psh (v := (.int (0))) (show xm_Imp g Γ 2353 (xi_psh (.int (0)) 2354) from xs_iconst hΓ dL_law_2353 (by decide)) ?_
            exact xw_iret (show xm_Imp g Γ 2354 (xi_iret .boolean _) from xs_ireturn hΓ rfl dL_law_2354) rfl ⟨_, rfl, e⟩
        · rw [if_neg c] at e
          exact xm_lx (hB_2355 _ _ _ _ e) (And.intro rfl (And.intro rfl (And.intro rfl (And.intro rfl (And.intro rfl (And.intro rfl (trivial)))))))
      · rw [if_neg c] at e
        refine xw_psh (v := (.int (0))) (show xm_Imp g Γ 2336 (xi_psh (.int (0)) 2337) from xs_iconst hΓ dL_law_2336 (by decide)) ?_
        exact xw_iret (show xm_Imp g Γ 2337 (xi_iret .boolean _) from xs_ireturn hΓ rfl dL_law_2337) rfl ⟨_, rfl, e⟩
    have hB_2358 : ∀ (l5 : Int32) (h : xm_H) (bc : Nat) (bs : Nat), B_L_law_2358 g l0 l1 l2 l3 l4 l5 h bc bs k28 Q → xm_W g Γ 2358 [some (va_rf l0), some (va_rf l1), some (va_rf l2), some (va_rf l3), some (va_rf l4), some (.int l5), none, none, none] [] h bc bs := by
      intro l5 h bc bs e
      unfold B_L_law_2358 at e
      refine xw_aldo (x := l1) (show xm_Imp g Γ 2358 (xi_ald 1 2359) from xs_aload_n hΓ dL_law_2358) rfl ?_
      obtain ⟨a620, ha620, e⟩ := e
      obtain ⟨_, e0, e⟩ := e
      obtain ⟨m621, m622, ⟨em1, em2⟩, e⟩ := e
      refine xw_tvi0 (o := l1) (show xm_Imp g Γ 2359 (xi_vir g 0 M_X1_spread 7 0 2362) from xs_invV hG hΓ k_X1_spread rfl (ci := 0) rfl q1681 q1682 q1683 dL_law_2359) (by simp [xm_stk, xv_cat, xc_int, xc_long, xc_float, xc_double, xc_ref]) ha620 e0 em1 em2 (K_X1_spread hG a620 _ _ _ e) (fun v624 h623 e => ?_)
      refine xw_aldo (x := l2) (show xm_Imp g Γ 2362 (xi_ald 2 2363) from xs_aload_n hΓ dL_law_2362) rfl ?_
      obtain ⟨a625, ha625, e⟩ := e
      obtain ⟨ad626, σ627, hMad626, hBad626, hhad626, e⟩ := e
      obtain ⟨v628, e1, e⟩ := e
      refine xw_hv0 (o := l2) (u := ()) (show xm_Imp g Γ 2363 (xi_vir g 4 M_X5_spread 7 0 2366) from xs_invV hG hΓ k_X5_spread rfl (ci := 4) rfl q3420 q3421 q3422 dL_law_2363) (by simp [xm_stk, xv_cat, xc_int, xc_long, xc_float, xc_double, xc_ref]) ha625 (xM_is hhad626) (xM_run hhad626 (fun Q X hQ => K_X5_spread hG hMad626 hBad626 σ627 e1 hQ)) ?_
      refine xw_ic (show xm_Imp g Γ 2366 (xi_ic (fun x y => x = y) 2924 2369) from xs_icmp_eq hΓ dL_law_2366 (by decide)) (fun c => ?_) (fun c => ?_)
      · rw [if_pos c] at e
        exact hB_2924 _ _ _ _ e
      · rw [if_neg c] at e
        refine xw_psh (v := (.int (0))) (show xm_Imp g Γ 2369 (xi_psh (.int (0)) 2370) from xs_iconst hΓ dL_law_2369 (by decide)) ?_
        exact xw_iret (show xm_Imp g Γ 2370 (xi_iret .boolean _) from xs_ireturn hΓ rfl dL_law_2370) rfl ⟨_, rfl, e⟩
    have hB_2445 : ∀ (l5 : Int32) (h : xm_H) (bc : Nat) (bs : Nat), B_L_law_2445 g l0 l1 l2 l3 l4 l5 h bc bs k28 Q → xm_W g Γ 2445 [some (va_rf l0), some (va_rf l1), some (va_rf l2), some (va_rf l3), some (va_rf l4), some (.int l5), none, none, none] [] h bc bs := by
      intro l5 h bc bs e
      unfold B_L_law_2445 at e
      refine xw_goto (show xm_Imp g Γ 2445 (xi_goto 2924) from xs_goto hΓ dL_law_2445 (by decide)) ?_
      exact hB_2924 _ _ _ _ e
    have hB_2371 : ∀ (l5 : Int32) (h : xm_H) (bc : Nat) (bs : Nat), B_L_law_2371 g l0 l1 l2 l3 l4 l5 h bc bs k28 Q → xm_W g Γ 2371 [some (va_rf l0), some (va_rf l1), some (va_rf l2), some (va_rf l3), some (va_rf l4), some (.int l5), none, none, none] [] h bc bs := by
      intro l5 h bc bs e
      unfold B_L_law_2371 at e
      refine xw_aldo (x := l1) (show xm_Imp g Γ 2371 (xi_ald 1 2372) from xs_aload_n hΓ dL_law_2371) rfl ?_
      refine xw_aldo (x := l0) (show xm_Imp g Γ 2372 (xi_ald 0 2373) from xs_aload_n hΓ dL_law_2372) rfl ?_
      refine xw_ild (show xm_Imp g Γ 2373 (xi_ild 5 2375) from xs_iload hΓ dL_law_2373) rfl ?_
      refine xw_psh (v := (.int (1))) (show xm_Imp g Γ 2375 (xi_psh (.int (1)) 2376) from xs_iconst hΓ dL_law_2375 (by decide)) ?_
      refine xw_ii (show xm_Imp g Γ 2376 (xi_ii (fun x y => x + y) 2377) from xs_iadd hΓ dL_law_2376) ?_
      obtain ⟨a629, ha629, e⟩ := e
      obtain ⟨v630, e1, e⟩ := e
      refine xw_hial (o := l0) (show xm_Imp g Γ 2377 (xi_ial 2378) from xs_ial hG hΓ dL_law_2377) ha629 e1 ?_
      refine xw_aldo (x := l4) (show xm_Imp g Γ 2378 (xi_ald 4 2380) from xs_aload hΓ dL_law_2378) rfl ?_
      obtain ⟨m631, m632, ⟨em1, em2⟩, e⟩ := e
      refine xw_tsi3 (show xm_Imp g Γ 2380 (xi_inv g M_X0_probability 11 3 2383) from xs_invSW hG hΓ k_X0_probability rfl q2131 q2132 dL_law_2380) rfl em1 em2 (K_X0_probability hG l1 v630 l4 _ _ _ e) (fun v634 h633 e => ?_)
      refine xw_ist (ls' := [some (va_rf l0), some (va_rf l1), some (va_rf l2), some (va_rf l3), some (va_rf l4), some (.int l5), some (.int v634), none, none]) (show xm_Imp g Γ 2383 (xi_ist 6 2385) from xs_istore hΓ dL_law_2383 (Nat.le_of_ble_eq_true rfl)) rfl ?_
      refine xw_aldo (x := l2) (show xm_Imp g Γ 2385 (xi_ald 2 2386) from xs_aload_n hΓ dL_law_2385) rfl ?_
      refine xw_aldo (x := l0) (show xm_Imp g Γ 2386 (xi_ald 0 2387) from xs_aload_n hΓ dL_law_2386) rfl ?_
      refine xw_ild (show xm_Imp g Γ 2387 (xi_ild 5 2389) from xs_iload hΓ dL_law_2387) rfl ?_
      refine xw_psh (v := (.int (1))) (show xm_Imp g Γ 2389 (xi_psh (.int (1)) 2390) from xs_iconst hΓ dL_law_2389 (by decide)) ?_
      refine xw_ii (show xm_Imp g Γ 2390 (xi_ii (fun x y => x + y) 2391) from xs_iadd hΓ dL_law_2390) ?_
      obtain ⟨v635, e1, e⟩ := e
      refine xw_hial (o := l0) (show xm_Imp g Γ 2391 (xi_ial 2392) from xs_ial hG hΓ dL_law_2391) ha629 e1 ?_
      obtain ⟨a636, ha636, e⟩ := e
      obtain ⟨ad637, σ638, hMad637, hBad637, hhad637, e⟩ := e
      obtain ⟨v639, e1, e⟩ := e
      refine xw_hv1 (o := l2) (u := ()) (show xm_Imp g Γ 2392 (xi_vir g 4 M_X5_probability 7 1 2395) from xs_invV hG hΓ k_X5_probability rfl (ci := 4) rfl q3428 q3429 q3430 dL_law_2392) (by simp [xm_stk, xv_cat, xc_int, xc_long, xc_float, xc_double, xc_ref]) ha636 (xM_is hhad637) (xM_run hhad637 (fun Q X hQ => K_X5_probability hG hMad637 hBad637 v635 σ638 e1 hQ)) ?_
      refine xw_dst (ls' := [some (va_rf l0), some (va_rf l1), some (va_rf l2), some (va_rf l3), some (va_rf l4), some (.int l5), some (.int v634), some (.double v639.1), none]) (show xm_Imp g Γ 2395 (xi_dst 7 2397) from xs_dstore hΓ dL_law_2395 (Nat.le_of_ble_eq_true rfl)) rfl ?_
      refine xw_aldo (x := l2) (show xm_Imp g Γ 2397 (xi_ald 2 2398) from xs_aload_n hΓ dL_law_2397) rfl ?_
      obtain ⟨ad640, σ641, hMad640, hBad640, hhad640, e⟩ := e
      obtain ⟨v642, e1, e⟩ := e
      refine xw_hv0 (o := l2) (u := ()) (show xm_Imp g Γ 2398 (xi_vir g 4 M_X5_thrown 1 0 2401) from xs_invV hG hΓ k_X5_thrown rfl (ci := 4) rfl q2978 q2979 q2980 dL_law_2398) (by simp [xm_stk, xv_cat, xc_int, xc_long, xc_float, xc_double, xc_ref]) ha636 (xM_is hhad640) (xM_run0 hhad640 (fun Q X hQ => K_X5_thrown hG hMad640 hBad640 σ641 (Option.some.inj e1) hQ)) ?_
      refine xw_ild (show xm_Imp g Γ 2401 (xi_ild 6 2403) from xs_iload hΓ dL_law_2401) rfl ?_
      refine xw_ic (show xm_Imp g Γ 2403 (xi_ic (fun x y => x = y) 2408 2406) from xs_icmp_eq hΓ dL_law_2403 (by decide)) (fun c => ?_) (fun c => ?_)
      · rw [if_pos c] at e
        refine xw_ild (show xm_Imp g Γ 2408 (xi_ild 6 2410) from xs_iload hΓ dL_law_2408) rfl ?_
        refine xw_if (show xm_Imp g Γ 2410 (xi_if (fun x => x = 0) 2413 2445) from xs_if_ne hΓ dL_law_2410 (by decide)) (fun c => ?_) (fun c => ?_)
        · rw [if_pos c] at e
          refine xw_aldo (x := l4) (show xm_Imp g Γ 2413 (xi_ald 4 2415) from xs_aload hΓ dL_law_2413) rfl ?_
          refine xw_psh (v := (.int (0))) (show xm_Imp g Γ 2415 (xi_psh (.int (0)) 2416) from xs_iconst hΓ dL_law_2415 (by decide)) ?_
          obtain ⟨a643, ha643, e⟩ := e
          obtain ⟨v644, e1, e⟩ := e
          refine xw_hdal (o := l4) (show xm_Imp g Γ 2416 (xi_dal 2417) from xs_dal hG hΓ dL_law_2416) ha643 e1 ?_
          refine xw_dld (show xm_Imp g Γ 2417 (xi_dld 7 2419) from xs_dload hΓ dL_law_2417) rfl ?_
          refine xw_dcmp (show xm_Imp g Γ 2419 (xi_dcmp .l 2420) from xs_dcmp hΓ dL_law_2419) ?_
          refine xw_if (show xm_Imp g Γ 2420 (xi_if (fun x => x = 0) 2445 2423) from xs_if_eq hΓ dL_law_2420 (by decide)) (fun c => ?_) (fun c => ?_)
          · rw [if_pos c] at e
            exact xm_lx (hB_2445 _ _ _ _ e) (And.intro rfl (And.intro rfl (And.intro rfl (And.intro rfl (And.intro rfl (And.intro rfl (trivial)))))))
          · rw [if_neg c] at e
            refine xw_aldo (x := l4) (show xm_Imp g Γ 2423 (xi_ald 4 2425) from xs_aload hΓ dL_law_2423) rfl ?_
            refine xw_psh (v := (.int (0))) (show xm_Imp g Γ 2425 (xi_psh (.int (0)) 2426) from xs_iconst hΓ dL_law_2425 (by decide)) ?_
            obtain ⟨v645, e1, e⟩ := e
            refine xw_hdal (o := l4) (show xm_Imp g Γ 2426 (xi_dal 2427) from xs_dal hG hΓ dL_law_2426) ha643 e1 ?_
            refine xw_aldo (x := l4) (show xm_Imp g Γ 2427 (xi_ald 4 2429) from xs_aload hΓ dL_law_2427) rfl ?_
            refine xw_psh (v := (.int (0))) (show xm_Imp g Γ 2429 (xi_psh (.int (0)) 2430) from xs_iconst hΓ dL_law_2429 (by decide)) ?_
            obtain ⟨v646, e1, e⟩ := e
            refine xw_hdal (o := l4) (show xm_Imp g Γ 2430 (xi_dal 2431) from xs_dal hG hΓ dL_law_2430) ha643 e1 ?_
            refine xw_dcmp (show xm_Imp g Γ 2431 (xi_dcmp .l 2432) from xs_dcmp hΓ dL_law_2431) ?_
            refine xw_if (show xm_Imp g Γ 2432 (xi_if (fun x => x = 0) 2443 2435) from xs_if_eq hΓ dL_law_2432 (by decide)) (fun c => ?_) (fun c => ?_)
            · rw [if_pos c] at e
              refine xw_psh (v := (.int (0))) (show xm_Imp g Γ 2443 (xi_psh (.int (0)) 2444) from xs_iconst hΓ dL_law_2443 (by decide)) ?_
              exact xw_iret (show xm_Imp g Γ 2444 (xi_iret .boolean _) from xs_ireturn hΓ rfl dL_law_2444) rfl ⟨_, rfl, e⟩
            · rw [if_neg c] at e
              refine xw_dld (show xm_Imp g Γ 2435 (xi_dld 7 2437) from xs_dload hΓ dL_law_2435) rfl ?_
              refine xw_dld (show xm_Imp g Γ 2437 (xi_dld 7 2439) from xs_dload hΓ dL_law_2437) rfl ?_
              refine xw_dcmp (show xm_Imp g Γ 2439 (xi_dcmp .l 2440) from xs_dcmp hΓ dL_law_2439) ?_
              refine xw_if (show xm_Imp g Γ 2440 (xi_if (fun x => x = 0) 2443 2445) from xs_if_ne hΓ dL_law_2440 (by decide)) (fun c => ?_) (fun c => ?_)
              · rw [if_pos c] at e
                refine xw_psh (v := (.int (0))) (show xm_Imp g Γ 2443 (xi_psh (.int (0)) 2444) from xs_iconst hΓ dL_law_2443 (by decide)) ?_
                exact xw_iret (show xm_Imp g Γ 2444 (xi_iret .boolean _) from xs_ireturn hΓ rfl dL_law_2444) rfl ⟨_, rfl, e⟩
              · rw [if_neg c] at e
                exact xm_lx (hB_2445 _ _ _ _ e) (And.intro rfl (And.intro rfl (And.intro rfl (And.intro rfl (And.intro rfl (And.intro rfl (trivial)))))))
        · rw [if_neg c] at e
          exact xm_lx (hB_2445 _ _ _ _ e) (And.intro rfl (And.intro rfl (And.intro rfl (And.intro rfl (And.intro rfl (And.intro rfl (trivial)))))))
      · rw [if_neg c] at e
        refine xw_psh (v := (.int (0))) (show xm_Imp g Γ 2406 (xi_psh (.int (0)) 2407) from xs_iconst hΓ dL_law_2406 (by decide)) ?_
        exact xw_iret (show xm_Imp g Γ 2407 (xi_iret .boolean _) from xs_ireturn hΓ rfl dL_law_2407) rfl ⟨_, rfl, e⟩
    have hB_2448 : ∀ (l5 : Int32) (h : xm_H) (bc : Nat) (bs : Nat), B_L_law_2448 g l0 l1 l2 l3 l4 l5 h bc bs k28 Q → xm_W g Γ 2448 [some (va_rf l0), some (va_rf l1), some (va_rf l2), some (va_rf l3), some (va_rf l4), some (.int l5), none, none, none] [] h bc bs := by
      intro l5 h bc bs e
      unfold B_L_law_2448 at e
      refine xw_aldo (x := l1) (show xm_Imp g Γ 2448 (xi_ald 1 2449) from xs_aload_n hΓ dL_law_2448) rfl ?_
      refine xw_aldo (x := l0) (show xm_Imp g Γ 2449 (xi_ald 0 2450) from xs_aload_n hΓ dL_law_2449) rfl ?_
      refine xw_ild (show xm_Imp g Γ 2450 (xi_ild 5 2452) from xs_iload hΓ dL_law_2450) rfl ?_
      refine xw_psh (v := (.int (1))) (show xm_Imp g Γ 2452 (xi_psh (.int (1)) 2453) from xs_iconst hΓ dL_law_2452 (by decide)) ?_
      refine xw_ii (show xm_Imp g Γ 2453 (xi_ii (fun x y => x + y) 2454) from xs_iadd hΓ dL_law_2453) ?_
      obtain ⟨a647, ha647, e⟩ := e
      obtain ⟨v648, e1, e⟩ := e
      refine xw_hial (o := l0) (show xm_Imp g Γ 2454 (xi_ial 2455) from xs_ial hG hΓ dL_law_2454) ha647 e1 ?_
      obtain ⟨a649, ha649, e⟩ := e
      obtain ⟨_, e0, e⟩ := e
      obtain ⟨m650, m651, ⟨em1, em2⟩, e⟩ := e
      refine xw_tvi1 (o := l1) (show xm_Imp g Γ 2455 (xi_vir g 0 M_X1_possible 7 1 2458) from xs_invV hG hΓ k_X1_possible rfl (ci := 0) rfl q1685 q1686 q1687 dL_law_2455) (by simp [xm_stk, xv_cat, xc_int, xc_long, xc_float, xc_double, xc_ref]) ha649 e0 em1 em2 (K_X1_possible hG a649 v648 _ _ _ e) (fun v653 h652 e => ?_)
      refine xw_aldo (x := l2) (show xm_Imp g Γ 2458 (xi_ald 2 2459) from xs_aload_n hΓ dL_law_2458) rfl ?_
      refine xw_aldo (x := l0) (show xm_Imp g Γ 2459 (xi_ald 0 2460) from xs_aload_n hΓ dL_law_2459) rfl ?_
      refine xw_ild (show xm_Imp g Γ 2460 (xi_ild 5 2462) from xs_iload hΓ dL_law_2460) rfl ?_
      refine xw_psh (v := (.int (1))) (show xm_Imp g Γ 2462 (xi_psh (.int (1)) 2463) from xs_iconst hΓ dL_law_2462 (by decide)) ?_
      refine xw_ii (show xm_Imp g Γ 2463 (xi_ii (fun x y => x + y) 2464) from xs_iadd hΓ dL_law_2463) ?_
      obtain ⟨v654, e1, e⟩ := e
      refine xw_hial (o := l0) (show xm_Imp g Γ 2464 (xi_ial 2465) from xs_ial hG hΓ dL_law_2464) ha647 e1 ?_
      obtain ⟨a655, ha655, e⟩ := e
      obtain ⟨ad656, σ657, hMad656, hBad656, hhad656, e⟩ := e
      obtain ⟨v658, e1, e⟩ := e
      refine xw_hv1 (o := l2) (u := ()) (show xm_Imp g Γ 2465 (xi_vir g 4 M_X5_possible 7 1 2468) from xs_invV hG hΓ k_X5_possible rfl (ci := 4) rfl q3436 q3437 q3438 dL_law_2465) (by simp [xm_stk, xv_cat, xc_int, xc_long, xc_float, xc_double, xc_ref]) ha655 (xM_is hhad656) (xM_run hhad656 (fun Q X hQ => K_X5_possible hG hMad656 hBad656 v654 σ657 e1 hQ)) ?_
      refine xw_ic (show xm_Imp g Γ 2468 (xi_ic (fun x y => x = y) 2924 2471) from xs_icmp_eq hΓ dL_law_2468 (by decide)) (fun c => ?_) (fun c => ?_)
      · rw [if_pos c] at e
        exact hB_2924 _ _ _ _ e
      · rw [if_neg c] at e
        refine xw_psh (v := (.int (0))) (show xm_Imp g Γ 2471 (xi_psh (.int (0)) 2472) from xs_iconst hΓ dL_law_2471 (by decide)) ?_
        exact xw_iret (show xm_Imp g Γ 2472 (xi_iret .boolean _) from xs_ireturn hΓ rfl dL_law_2472) rfl ⟨_, rfl, e⟩
    have hB_2533 : ∀ (l5 : Int32) (h : xm_H) (bc : Nat) (bs : Nat), B_L_law_2533 g l0 l1 l2 l3 l4 l5 h bc bs k28 Q → xm_W g Γ 2533 [some (va_rf l0), some (va_rf l1), some (va_rf l2), some (va_rf l3), some (va_rf l4), some (.int l5), none, none, none] [] h bc bs := by
      intro l5 h bc bs e
      unfold B_L_law_2533 at e
      refine xw_goto (show xm_Imp g Γ 2533 (xi_goto 2924) from xs_goto hΓ dL_law_2533 (by decide)) ?_
      exact hB_2924 _ _ _ _ e
    have hB_2527 : ∀ (l5 : Int32) (s0 : Int64) (s1 : Int64) (h : xm_H) (bc : Nat) (bs : Nat), B_L_law_2527 g l0 l1 l2 l3 l4 l5 s0 s1 h bc bs k28 Q → xm_W g Γ 2527 [some (va_rf l0), some (va_rf l1), some (va_rf l2), some (va_rf l3), some (va_rf l4), some (.int l5), none, none, none] [.long s1, .long s0] h bc bs := by
      intro l5 s0 s1 h bc bs e
      unfold B_L_law_2527 at e
      refine xw_lcmp (show xm_Imp g Γ 2527 (xi_lcmp 2528) from xs_lcmp hΓ dL_law_2527) ?_
      refine xw_if (show xm_Imp g Γ 2528 (xi_if (fun x => x = 0) 2533 2531) from xs_if_eq hΓ dL_law_2528 (by decide)) (fun c => ?_) (fun c => ?_)
      · rw [if_pos c] at e
        exact hB_2533 _ _ _ _ e
      · rw [if_neg c] at e
        refine xw_psh (v := (.int (0))) (show xm_Imp g Γ 2531 (xi_psh (.int (0)) 2532) from xs_iconst hΓ dL_law_2531 (by decide)) ?_
        exact xw_iret (show xm_Imp g Γ 2532 (xi_iret .boolean _) from xs_ireturn hΓ rfl dL_law_2532) rfl ⟨_, rfl, e⟩
    have hB_2473 : ∀ (l5 : Int32) (h : xm_H) (bc : Nat) (bs : Nat), B_L_law_2473 g l0 l1 l2 l3 l4 l5 h bc bs k28 Q → xm_W g Γ 2473 [some (va_rf l0), some (va_rf l1), some (va_rf l2), some (va_rf l3), some (va_rf l4), some (.int l5), none, none, none] [] h bc bs := by
      intro l5 h bc bs e
      unfold B_L_law_2473 at e
      refine xw_aldo (x := l1) (show xm_Imp g Γ 2473 (xi_ald 1 2474) from xs_aload_n hΓ dL_law_2473) rfl ?_
      refine xw_aldo (x := l0) (show xm_Imp g Γ 2474 (xi_ald 0 2475) from xs_aload_n hΓ dL_law_2474) rfl ?_
      refine xw_ild (show xm_Imp g Γ 2475 (xi_ild 5 2477) from xs_iload hΓ dL_law_2475) rfl ?_
      refine xw_psh (v := (.int (1))) (show xm_Imp g Γ 2477 (xi_psh (.int (1)) 2478) from xs_iconst hΓ dL_law_2477 (by decide)) ?_
      refine xw_ii (show xm_Imp g Γ 2478 (xi_ii (fun x y => x + y) 2479) from xs_iadd hΓ dL_law_2478) ?_
      obtain ⟨a659, ha659, e⟩ := e
      obtain ⟨v660, e1, e⟩ := e
      refine xw_hial (o := l0) (show xm_Imp g Γ 2479 (xi_ial 2480) from xs_ial hG hΓ dL_law_2479) ha659 e1 ?_
      refine xw_aldo (x := l3) (show xm_Imp g Γ 2480 (xi_ald 3 2481) from xs_aload_n hΓ dL_law_2480) rfl ?_
      obtain ⟨m661, m662, ⟨em1, em2⟩, e⟩ := e
      refine xw_tsi3 (show xm_Imp g Γ 2481 (xi_inv g M_X0_keep 10 3 2484) from xs_invSW hG hΓ k_X0_keep rfl q2139 q2140 dL_law_2481) rfl em1 em2 (K_X0_keep hG l1 v660 l3 _ _ _ e) (fun v664 h663 e => ?_)
      refine xw_ist (ls' := [some (va_rf l0), some (va_rf l1), some (va_rf l2), some (va_rf l3), some (va_rf l4), some (.int l5), some (.int v664), none, none]) (show xm_Imp g Γ 2484 (xi_ist 6 2486) from xs_istore hΓ dL_law_2484 (Nat.le_of_ble_eq_true rfl)) rfl ?_
      refine xw_aldo (x := l2) (show xm_Imp g Γ 2486 (xi_ald 2 2487) from xs_aload_n hΓ dL_law_2486) rfl ?_
      refine xw_aldo (x := l0) (show xm_Imp g Γ 2487 (xi_ald 0 2488) from xs_aload_n hΓ dL_law_2487) rfl ?_
      refine xw_ild (show xm_Imp g Γ 2488 (xi_ild 5 2490) from xs_iload hΓ dL_law_2488) rfl ?_
      refine xw_psh (v := (.int (1))) (show xm_Imp g Γ 2490 (xi_psh (.int (1)) 2491) from xs_iconst hΓ dL_law_2490 (by decide)) ?_
      refine xw_ii (show xm_Imp g Γ 2491 (xi_ii (fun x y => x + y) 2492) from xs_iadd hΓ dL_law_2491) ?_
      obtain ⟨v665, e1, e⟩ := e
      refine xw_hial (o := l0) (show xm_Imp g Γ 2492 (xi_ial 2493) from xs_ial hG hΓ dL_law_2492) ha659 e1 ?_
      obtain ⟨a666, ha666, e⟩ := e
      obtain ⟨ad667, σ668, hMad667, hBad667, hhad667, e⟩ := e
      obtain ⟨v669, e1, e⟩ := e
      refine xw_hv1 (o := l2) (u := ()) (show xm_Imp g Γ 2493 (xi_vir g 4 M_X5_keep 3 1 2496) from xs_invV hG hΓ k_X5_keep rfl (ci := 4) rfl q3440 q3441 q3442 dL_law_2493) (by simp [xm_stk, xv_cat, xc_int, xc_long, xc_float, xc_double, xc_ref]) ha666 (xM_is hhad667) (xM_run hhad667 (fun Q X hQ => K_X5_keep hG hMad667 hBad667 v665 σ668 e1 hQ)) ?_
      refine xw_ist (ls' := [some (va_rf l0), some (va_rf l1), some (va_rf l2), some (va_rf l3), some (va_rf l4), some (.int l5), some (.int v664), some (.int v669.1), none]) (show xm_Imp g Γ 2496 (xi_ist 7 2498) from xs_istore hΓ dL_law_2496 (Nat.le_of_ble_eq_true rfl)) rfl ?_
      refine xw_aldo (x := l2) (show xm_Imp g Γ 2498 (xi_ald 2 2499) from xs_aload_n hΓ dL_law_2498) rfl ?_
      obtain ⟨ad670, σ671, hMad670, hBad670, hhad670, e⟩ := e
      obtain ⟨v672, e1, e⟩ := e
      refine xw_hv0 (o := l2) (u := ()) (show xm_Imp g Γ 2499 (xi_vir g 4 M_X5_thrown 1 0 2502) from xs_invV hG hΓ k_X5_thrown rfl (ci := 4) rfl q2978 q2979 q2980 dL_law_2499) (by simp [xm_stk, xv_cat, xc_int, xc_long, xc_float, xc_double, xc_ref]) ha666 (xM_is hhad670) (xM_run0 hhad670 (fun Q X hQ => K_X5_thrown hG hMad670 hBad670 σ671 (Option.some.inj e1) hQ)) ?_
      refine xw_ild (show xm_Imp g Γ 2502 (xi_ild 6 2504) from xs_iload hΓ dL_law_2502) rfl ?_
      refine xw_ic (show xm_Imp g Γ 2504 (xi_ic (fun x y => x = y) 2509 2507) from xs_icmp_eq hΓ dL_law_2504 (by decide)) (fun c => ?_) (fun c => ?_)
      · rw [if_pos c] at e
        refine xw_ild (show xm_Imp g Γ 2509 (xi_ild 6 2511) from xs_iload hΓ dL_law_2509) rfl ?_
        refine xw_if (show xm_Imp g Γ 2511 (xi_if (fun x => x = 0) 2514 2533) from xs_if_ne hΓ dL_law_2511 (by decide)) (fun c => ?_) (fun c => ?_)
        · rw [if_pos c] at e
          refine xw_aldo (x := l3) (show xm_Imp g Γ 2514 (xi_ald 3 2515) from xs_aload_n hΓ dL_law_2514) rfl ?_
          refine xw_psh (v := (.int (0))) (show xm_Imp g Γ 2515 (xi_psh (.int (0)) 2516) from xs_iconst hΓ dL_law_2515 (by decide)) ?_
          obtain ⟨a673, ha673, e⟩ := e
          obtain ⟨v674, e1, e⟩ := e
          refine xw_hlal (o := l3) (show xm_Imp g Γ 2516 (xi_lal 2517) from xs_lal hG hΓ dL_law_2516) ha673 e1 ?_
          refine xw_ild (show xm_Imp g Γ 2517 (xi_ild 7 2519) from xs_iload hΓ dL_law_2517) rfl ?_
          refine xw_if (show xm_Imp g Γ 2519 (xi_if (fun x => x = 0) 2526 2522) from xs_if_eq hΓ dL_law_2519 (by decide)) (fun c => ?_) (fun c => ?_)
          · rw [if_pos c] at e
            refine xw_psh (v := (.long 0)) (show xm_Imp g Γ 2526 (xi_psh (.long 0) 2527) from xs_lconst hΓ dL_law_2526 (by decide)) ?_
            exact xm_lx (hB_2527 _ _ _ _ _ _ e) (And.intro rfl (And.intro rfl (And.intro rfl (And.intro rfl (And.intro rfl (And.intro rfl (trivial)))))))
          · rw [if_neg c] at e
            refine xw_psh (v := (.long 1)) (show xm_Imp g Γ 2522 (xi_psh (.long 1) 2523) from xs_lconst hΓ dL_law_2522 (by decide)) ?_
            refine xw_goto (show xm_Imp g Γ 2523 (xi_goto 2527) from xs_goto hΓ dL_law_2523 (by decide)) ?_
            exact xm_lx (hB_2527 _ _ _ _ _ _ e) (And.intro rfl (And.intro rfl (And.intro rfl (And.intro rfl (And.intro rfl (And.intro rfl (trivial)))))))
        · rw [if_neg c] at e
          exact xm_lx (hB_2533 _ _ _ _ e) (And.intro rfl (And.intro rfl (And.intro rfl (And.intro rfl (And.intro rfl (And.intro rfl (trivial)))))))
      · rw [if_neg c] at e
        refine xw_psh (v := (.int (0))) (show xm_Imp g Γ 2507 (xi_psh (.int (0)) 2508) from xs_iconst hΓ dL_law_2507 (by decide)) ?_
        exact xw_iret (show xm_Imp g Γ 2508 (xi_iret .boolean _) from xs_ireturn hΓ rfl dL_law_2508) rfl ⟨_, rfl, e⟩
    have hB_2596 : ∀ (l5 : Int32) (h : xm_H) (bc : Nat) (bs : Nat), B_L_law_2596 g l0 l1 l2 l3 l4 l5 h bc bs k28 Q → xm_W g Γ 2596 [some (va_rf l0), some (va_rf l1), some (va_rf l2), some (va_rf l3), some (va_rf l4), some (.int l5), none, none, none] [] h bc bs := by
      intro l5 h bc bs e
      unfold B_L_law_2596 at e
      refine xw_goto (show xm_Imp g Γ 2596 (xi_goto 2924) from xs_goto hΓ dL_law_2596 (by decide)) ?_
      exact hB_2924 _ _ _ _ e
    have hB_2590 : ∀ (l5 : Int32) (s0 : Int64) (s1 : Int64) (h : xm_H) (bc : Nat) (bs : Nat), B_L_law_2590 g l0 l1 l2 l3 l4 l5 s0 s1 h bc bs k28 Q → xm_W g Γ 2590 [some (va_rf l0), some (va_rf l1), some (va_rf l2), some (va_rf l3), some (va_rf l4), some (.int l5), none, none, none] [.long s1, .long s0] h bc bs := by
      intro l5 s0 s1 h bc bs e
      unfold B_L_law_2590 at e
      refine xw_lcmp (show xm_Imp g Γ 2590 (xi_lcmp 2591) from xs_lcmp hΓ dL_law_2590) ?_
      refine xw_if (show xm_Imp g Γ 2591 (xi_if (fun x => x = 0) 2596 2594) from xs_if_eq hΓ dL_law_2591 (by decide)) (fun c => ?_) (fun c => ?_)
      · rw [if_pos c] at e
        exact hB_2596 _ _ _ _ e
      · rw [if_neg c] at e
        refine xw_psh (v := (.int (0))) (show xm_Imp g Γ 2594 (xi_psh (.int (0)) 2595) from xs_iconst hΓ dL_law_2594 (by decide)) ?_
        exact xw_iret (show xm_Imp g Γ 2595 (xi_iret .boolean _) from xs_ireturn hΓ rfl dL_law_2595) rfl ⟨_, rfl, e⟩
    have hB_2536 : ∀ (l5 : Int32) (h : xm_H) (bc : Nat) (bs : Nat), B_L_law_2536 g l0 l1 l2 l3 l4 l5 h bc bs k28 Q → xm_W g Γ 2536 [some (va_rf l0), some (va_rf l1), some (va_rf l2), some (va_rf l3), some (va_rf l4), some (.int l5), none, none, none] [] h bc bs := by
      intro l5 h bc bs e
      unfold B_L_law_2536 at e
      refine xw_aldo (x := l1) (show xm_Imp g Γ 2536 (xi_ald 1 2537) from xs_aload_n hΓ dL_law_2536) rfl ?_
      refine xw_aldo (x := l0) (show xm_Imp g Γ 2537 (xi_ald 0 2538) from xs_aload_n hΓ dL_law_2537) rfl ?_
      refine xw_ild (show xm_Imp g Γ 2538 (xi_ild 5 2540) from xs_iload hΓ dL_law_2538) rfl ?_
      refine xw_psh (v := (.int (1))) (show xm_Imp g Γ 2540 (xi_psh (.int (1)) 2541) from xs_iconst hΓ dL_law_2540 (by decide)) ?_
      refine xw_ii (show xm_Imp g Γ 2541 (xi_ii (fun x y => x + y) 2542) from xs_iadd hΓ dL_law_2541) ?_
      obtain ⟨a675, ha675, e⟩ := e
      obtain ⟨v676, e1, e⟩ := e
      refine xw_hial (o := l0) (show xm_Imp g Γ 2542 (xi_ial 2543) from xs_ial hG hΓ dL_law_2542) ha675 e1 ?_
      refine xw_aldo (x := l3) (show xm_Imp g Γ 2543 (xi_ald 3 2544) from xs_aload_n hΓ dL_law_2543) rfl ?_
      obtain ⟨m677, m678, ⟨em1, em2⟩, e⟩ := e
      refine xw_tsi3 (show xm_Imp g Γ 2544 (xi_inv g M_X0_isSame 11 3 2547) from xs_invSW hG hΓ k_X0_isSame rfl q2146 q2147 dL_law_2544) rfl em1 em2 (K_X0_isSame hG l1 v676 l3 _ _ _ e) (fun v680 h679 e => ?_)
      refine xw_ist (ls' := [some (va_rf l0), some (va_rf l1), some (va_rf l2), some (va_rf l3), some (va_rf l4), some (.int l5), some (.int v680), none, none]) (show xm_Imp g Γ 2547 (xi_ist 6 2549) from xs_istore hΓ dL_law_2547 (Nat.le_of_ble_eq_true rfl)) rfl ?_
      refine xw_aldo (x := l2) (show xm_Imp g Γ 2549 (xi_ald 2 2550) from xs_aload_n hΓ dL_law_2549) rfl ?_
      refine xw_aldo (x := l0) (show xm_Imp g Γ 2550 (xi_ald 0 2551) from xs_aload_n hΓ dL_law_2550) rfl ?_
      refine xw_ild (show xm_Imp g Γ 2551 (xi_ild 5 2553) from xs_iload hΓ dL_law_2551) rfl ?_
      refine xw_psh (v := (.int (1))) (show xm_Imp g Γ 2553 (xi_psh (.int (1)) 2554) from xs_iconst hΓ dL_law_2553 (by decide)) ?_
      refine xw_ii (show xm_Imp g Γ 2554 (xi_ii (fun x y => x + y) 2555) from xs_iadd hΓ dL_law_2554) ?_
      obtain ⟨v681, e1, e⟩ := e
      refine xw_hial (o := l0) (show xm_Imp g Γ 2555 (xi_ial 2556) from xs_ial hG hΓ dL_law_2555) ha675 e1 ?_
      obtain ⟨a682, ha682, e⟩ := e
      obtain ⟨ad683, σ684, hMad683, hBad683, hhad683, e⟩ := e
      obtain ⟨v685, e1, e⟩ := e
      refine xw_hv1 (o := l2) (u := ()) (show xm_Imp g Γ 2556 (xi_vir g 4 M_X5_isSame 8 1 2559) from xs_invV hG hΓ k_X5_isSame rfl (ci := 4) rfl q3460 q3461 q3462 dL_law_2556) (by simp [xm_stk, xv_cat, xc_int, xc_long, xc_float, xc_double, xc_ref]) ha682 (xM_is hhad683) (xM_run hhad683 (fun Q X hQ => K_X5_isSame hG hMad683 hBad683 v681 σ684 e1 hQ)) ?_
      refine xw_ist (ls' := [some (va_rf l0), some (va_rf l1), some (va_rf l2), some (va_rf l3), some (va_rf l4), some (.int l5), some (.int v680), some (.int v685.1), none]) (show xm_Imp g Γ 2559 (xi_ist 7 2561) from xs_istore hΓ dL_law_2559 (Nat.le_of_ble_eq_true rfl)) rfl ?_
      refine xw_aldo (x := l2) (show xm_Imp g Γ 2561 (xi_ald 2 2562) from xs_aload_n hΓ dL_law_2561) rfl ?_
      obtain ⟨ad686, σ687, hMad686, hBad686, hhad686, e⟩ := e
      obtain ⟨v688, e1, e⟩ := e
      refine xw_hv0 (o := l2) (u := ()) (show xm_Imp g Γ 2562 (xi_vir g 4 M_X5_thrown 1 0 2565) from xs_invV hG hΓ k_X5_thrown rfl (ci := 4) rfl q2978 q2979 q2980 dL_law_2562) (by simp [xm_stk, xv_cat, xc_int, xc_long, xc_float, xc_double, xc_ref]) ha682 (xM_is hhad686) (xM_run0 hhad686 (fun Q X hQ => K_X5_thrown hG hMad686 hBad686 σ687 (Option.some.inj e1) hQ)) ?_
      refine xw_ild (show xm_Imp g Γ 2565 (xi_ild 6 2567) from xs_iload hΓ dL_law_2565) rfl ?_
      refine xw_ic (show xm_Imp g Γ 2567 (xi_ic (fun x y => x = y) 2572 2570) from xs_icmp_eq hΓ dL_law_2567 (by decide)) (fun c => ?_) (fun c => ?_)
      · rw [if_pos c] at e
        refine xw_ild (show xm_Imp g Γ 2572 (xi_ild 6 2574) from xs_iload hΓ dL_law_2572) rfl ?_
        refine xw_if (show xm_Imp g Γ 2574 (xi_if (fun x => x = 0) 2577 2596) from xs_if_ne hΓ dL_law_2574 (by decide)) (fun c => ?_) (fun c => ?_)
        · rw [if_pos c] at e
          refine xw_aldo (x := l3) (show xm_Imp g Γ 2577 (xi_ald 3 2578) from xs_aload_n hΓ dL_law_2577) rfl ?_
          refine xw_psh (v := (.int (0))) (show xm_Imp g Γ 2578 (xi_psh (.int (0)) 2579) from xs_iconst hΓ dL_law_2578 (by decide)) ?_
          obtain ⟨a689, ha689, e⟩ := e
          obtain ⟨v690, e1, e⟩ := e
          refine xw_hlal (o := l3) (show xm_Imp g Γ 2579 (xi_lal 2580) from xs_lal hG hΓ dL_law_2579) ha689 e1 ?_
          refine xw_ild (show xm_Imp g Γ 2580 (xi_ild 7 2582) from xs_iload hΓ dL_law_2580) rfl ?_
          refine xw_if (show xm_Imp g Γ 2582 (xi_if (fun x => x = 0) 2589 2585) from xs_if_eq hΓ dL_law_2582 (by decide)) (fun c => ?_) (fun c => ?_)
          · rw [if_pos c] at e
            refine xw_psh (v := (.long 0)) (show xm_Imp g Γ 2589 (xi_psh (.long 0) 2590) from xs_lconst hΓ dL_law_2589 (by decide)) ?_
            exact xm_lx (hB_2590 _ _ _ _ _ _ e) (And.intro rfl (And.intro rfl (And.intro rfl (And.intro rfl (And.intro rfl (And.intro rfl (trivial)))))))
          · rw [if_neg c] at e
            refine xw_psh (v := (.long 1)) (show xm_Imp g Γ 2585 (xi_psh (.long 1) 2586) from xs_lconst hΓ dL_law_2585 (by decide)) ?_
            refine xw_goto (show xm_Imp g Γ 2586 (xi_goto 2590) from xs_goto hΓ dL_law_2586 (by decide)) ?_
            exact xm_lx (hB_2590 _ _ _ _ _ _ e) (And.intro rfl (And.intro rfl (And.intro rfl (And.intro rfl (And.intro rfl (And.intro rfl (trivial)))))))
        · rw [if_neg c] at e
          exact xm_lx (hB_2596 _ _ _ _ e) (And.intro rfl (And.intro rfl (And.intro rfl (And.intro rfl (And.intro rfl (And.intro rfl (trivial)))))))
      · rw [if_neg c] at e
        refine xw_psh (v := (.int (0))) (show xm_Imp g Γ 2570 (xi_psh (.int (0)) 2571) from xs_iconst hΓ dL_law_2570 (by decide)) ?_
        exact xw_iret (show xm_Imp g Γ 2571 (xi_iret .boolean _) from xs_ireturn hΓ rfl dL_law_2571) rfl ⟨_, rfl, e⟩
    have hB_2652 : ∀ (l5 : Int32) (h : xm_H) (bc : Nat) (bs : Nat), B_L_law_2652 g l0 l1 l2 l3 l4 l5 h bc bs k28 Q → xm_W g Γ 2652 [some (va_rf l0), some (va_rf l1), some (va_rf l2), some (va_rf l3), some (va_rf l4), some (.int l5), none, none, none] [] h bc bs := by
      intro l5 h bc bs e
      unfold B_L_law_2652 at e
      refine xw_goto (show xm_Imp g Γ 2652 (xi_goto 2924) from xs_goto hΓ dL_law_2652 (by decide)) ?_
      exact hB_2924 _ _ _ _ e
    have hB_2599 : ∀ (l5 : Int32) (h : xm_H) (bc : Nat) (bs : Nat), B_L_law_2599 g l0 l1 l2 l3 l4 l5 h bc bs k28 Q → xm_W g Γ 2599 [some (va_rf l0), some (va_rf l1), some (va_rf l2), some (va_rf l3), some (va_rf l4), some (.int l5), none, none, none] [] h bc bs := by
      intro l5 h bc bs e
      unfold B_L_law_2599 at e
      refine xw_aldo (x := l1) (show xm_Imp g Γ 2599 (xi_ald 1 2600) from xs_aload_n hΓ dL_law_2599) rfl ?_
      refine xw_aldo (x := l0) (show xm_Imp g Γ 2600 (xi_ald 0 2601) from xs_aload_n hΓ dL_law_2600) rfl ?_
      refine xw_ild (show xm_Imp g Γ 2601 (xi_ild 5 2603) from xs_iload hΓ dL_law_2601) rfl ?_
      refine xw_psh (v := (.int (1))) (show xm_Imp g Γ 2603 (xi_psh (.int (1)) 2604) from xs_iconst hΓ dL_law_2603 (by decide)) ?_
      refine xw_ii (show xm_Imp g Γ 2604 (xi_ii (fun x y => x + y) 2605) from xs_iadd hΓ dL_law_2604) ?_
      obtain ⟨a691, ha691, e⟩ := e
      obtain ⟨v692, e1, e⟩ := e
      refine xw_hial (o := l0) (show xm_Imp g Γ 2605 (xi_ial 2606) from xs_ial hG hΓ dL_law_2605) ha691 e1 ?_
      refine xw_aldo (x := l3) (show xm_Imp g Γ 2606 (xi_ald 3 2607) from xs_aload_n hΓ dL_law_2606) rfl ?_
      obtain ⟨m693, m694, ⟨em1, em2⟩, e⟩ := e
      refine xw_tsi3 (show xm_Imp g Γ 2607 (xi_inv g M_X0_overlap 11 3 2610) from xs_invSW hG hΓ k_X0_overlap rfl q2757 q2758 dL_law_2607) rfl em1 em2 (K_X0_overlap hG l1 v692 l3 _ _ _ e) (fun v696 h695 e => ?_)
      refine xw_ist (ls' := [some (va_rf l0), some (va_rf l1), some (va_rf l2), some (va_rf l3), some (va_rf l4), some (.int l5), some (.int v696), none, none]) (show xm_Imp g Γ 2610 (xi_ist 6 2612) from xs_istore hΓ dL_law_2610 (Nat.le_of_ble_eq_true rfl)) rfl ?_
      refine xw_aldo (x := l2) (show xm_Imp g Γ 2612 (xi_ald 2 2613) from xs_aload_n hΓ dL_law_2612) rfl ?_
      refine xw_aldo (x := l0) (show xm_Imp g Γ 2613 (xi_ald 0 2614) from xs_aload_n hΓ dL_law_2613) rfl ?_
      refine xw_ild (show xm_Imp g Γ 2614 (xi_ild 5 2616) from xs_iload hΓ dL_law_2614) rfl ?_
      refine xw_psh (v := (.int (1))) (show xm_Imp g Γ 2616 (xi_psh (.int (1)) 2617) from xs_iconst hΓ dL_law_2616 (by decide)) ?_
      refine xw_ii (show xm_Imp g Γ 2617 (xi_ii (fun x y => x + y) 2618) from xs_iadd hΓ dL_law_2617) ?_
      obtain ⟨v697, e1, e⟩ := e
      refine xw_hial (o := l0) (show xm_Imp g Γ 2618 (xi_ial 2619) from xs_ial hG hΓ dL_law_2618) ha691 e1 ?_
      obtain ⟨a698, ha698, e⟩ := e
      obtain ⟨ad699, σ700, hMad699, hBad699, hhad699, e⟩ := e
      obtain ⟨v701, e1, e⟩ := e
      refine xw_hv1 (o := l2) (u := ()) (show xm_Imp g Γ 2619 (xi_vir g 4 M_X5_overlap 9 1 2622) from xs_invV hG hΓ k_X5_overlap rfl (ci := 4) rfl q3468 q3469 q3470 dL_law_2619) (by simp [xm_stk, xv_cat, xc_int, xc_long, xc_float, xc_double, xc_ref]) ha698 (xM_is hhad699) (xM_run hhad699 (fun Q X hQ => K_X5_overlap hG hMad699 hBad699 v697 σ700 e1 hQ)) ?_
      refine xw_ist (ls' := [some (va_rf l0), some (va_rf l1), some (va_rf l2), some (va_rf l3), some (va_rf l4), some (.int l5), some (.int v696), some (.int v701.1), none]) (show xm_Imp g Γ 2622 (xi_ist 7 2624) from xs_istore hΓ dL_law_2622 (Nat.le_of_ble_eq_true rfl)) rfl ?_
      refine xw_aldo (x := l2) (show xm_Imp g Γ 2624 (xi_ald 2 2625) from xs_aload_n hΓ dL_law_2624) rfl ?_
      obtain ⟨ad702, σ703, hMad702, hBad702, hhad702, e⟩ := e
      obtain ⟨v704, e1, e⟩ := e
      refine xw_hv0 (o := l2) (u := ()) (show xm_Imp g Γ 2625 (xi_vir g 4 M_X5_thrown 1 0 2628) from xs_invV hG hΓ k_X5_thrown rfl (ci := 4) rfl q2978 q2979 q2980 dL_law_2625) (by simp [xm_stk, xv_cat, xc_int, xc_long, xc_float, xc_double, xc_ref]) ha698 (xM_is hhad702) (xM_run0 hhad702 (fun Q X hQ => K_X5_thrown hG hMad702 hBad702 σ703 (Option.some.inj e1) hQ)) ?_
      refine xw_ild (show xm_Imp g Γ 2628 (xi_ild 6 2630) from xs_iload hΓ dL_law_2628) rfl ?_
      refine xw_ic (show xm_Imp g Γ 2630 (xi_ic (fun x y => x = y) 2635 2633) from xs_icmp_eq hΓ dL_law_2630 (by decide)) (fun c => ?_) (fun c => ?_)
      · rw [if_pos c] at e
        refine xw_ild (show xm_Imp g Γ 2635 (xi_ild 6 2637) from xs_iload hΓ dL_law_2635) rfl ?_
        refine xw_if (show xm_Imp g Γ 2637 (xi_if (fun x => x = 0) 2640 2652) from xs_if_ne hΓ dL_law_2637 (by decide)) (fun c => ?_) (fun c => ?_)
        · rw [if_pos c] at e
          refine xw_aldo (x := l3) (show xm_Imp g Γ 2640 (xi_ald 3 2641) from xs_aload_n hΓ dL_law_2640) rfl ?_
          refine xw_psh (v := (.int (0))) (show xm_Imp g Γ 2641 (xi_psh (.int (0)) 2642) from xs_iconst hΓ dL_law_2641 (by decide)) ?_
          obtain ⟨a705, ha705, e⟩ := e
          obtain ⟨v706, e1, e⟩ := e
          refine xw_hlal (o := l3) (show xm_Imp g Γ 2642 (xi_lal 2643) from xs_lal hG hΓ dL_law_2642) ha705 e1 ?_
          refine xw_ild (show xm_Imp g Γ 2643 (xi_ild 7 2645) from xs_iload hΓ dL_law_2643) rfl ?_
          refine xw_i2l (show xm_Imp g Γ 2645 (xi_i2l 2646) from xs_i2l hΓ dL_law_2645) ?_
          refine xw_lcmp (show xm_Imp g Γ 2646 (xi_lcmp 2647) from xs_lcmp hΓ dL_law_2646) ?_
          refine xw_if (show xm_Imp g Γ 2647 (xi_if (fun x => x = 0) 2652 2650) from xs_if_eq hΓ dL_law_2647 (by decide)) (fun c => ?_) (fun c => ?_)
          · rw [if_pos c] at e
            exact xm_lx (hB_2652 _ _ _ _ e) (And.intro rfl (And.intro rfl (And.intro rfl (And.intro rfl (And.intro rfl (And.intro rfl (trivial)))))))
          · rw [if_neg c] at e
            refine xw_psh (v := (.int (0))) (show xm_Imp g Γ 2650 (xi_psh (.int (0)) 2651) from xs_iconst hΓ dL_law_2650 (by decide)) ?_
            exact xw_iret (show xm_Imp g Γ 2651 (xi_iret .boolean _) from xs_ireturn hΓ rfl dL_law_2651) rfl ⟨_, rfl, e⟩
        · rw [if_neg c] at e
          exact xm_lx (hB_2652 _ _ _ _ e) (And.intro rfl (And.intro rfl (And.intro rfl (And.intro rfl (And.intro rfl (And.intro rfl (trivial)))))))
      · rw [if_neg c] at e
        refine xw_psh (v := (.int (0))) (show xm_Imp g Γ 2633 (xi_psh (.int (0)) 2634) from xs_iconst hΓ dL_law_2633 (by decide)) ?_
        exact xw_iret (show xm_Imp g Γ 2634 (xi_iret .boolean _) from xs_ireturn hΓ rfl dL_law_2634) rfl ⟨_, rfl, e⟩
    have hB_2708 : ∀ (l5 : Int32) (h : xm_H) (bc : Nat) (bs : Nat), B_L_law_2708 g l0 l1 l2 l3 l4 l5 h bc bs k28 Q → xm_W g Γ 2708 [some (va_rf l0), some (va_rf l1), some (va_rf l2), some (va_rf l3), some (va_rf l4), some (.int l5), none, none, none] [] h bc bs := by
      intro l5 h bc bs e
      unfold B_L_law_2708 at e
      refine xw_goto (show xm_Imp g Γ 2708 (xi_goto 2924) from xs_goto hΓ dL_law_2708 (by decide)) ?_
      exact hB_2924 _ _ _ _ e
    have hB_2655 : ∀ (l5 : Int32) (h : xm_H) (bc : Nat) (bs : Nat), B_L_law_2655 g l0 l1 l2 l3 l4 l5 h bc bs k28 Q → xm_W g Γ 2655 [some (va_rf l0), some (va_rf l1), some (va_rf l2), some (va_rf l3), some (va_rf l4), some (.int l5), none, none, none] [] h bc bs := by
      intro l5 h bc bs e
      unfold B_L_law_2655 at e
      refine xw_aldo (x := l1) (show xm_Imp g Γ 2655 (xi_ald 1 2656) from xs_aload_n hΓ dL_law_2655) rfl ?_
      refine xw_aldo (x := l0) (show xm_Imp g Γ 2656 (xi_ald 0 2657) from xs_aload_n hΓ dL_law_2656) rfl ?_
      refine xw_ild (show xm_Imp g Γ 2657 (xi_ild 5 2659) from xs_iload hΓ dL_law_2657) rfl ?_
      refine xw_psh (v := (.int (1))) (show xm_Imp g Γ 2659 (xi_psh (.int (1)) 2660) from xs_iconst hΓ dL_law_2659 (by decide)) ?_
      refine xw_ii (show xm_Imp g Γ 2660 (xi_ii (fun x y => x + y) 2661) from xs_iadd hΓ dL_law_2660) ?_
      obtain ⟨a707, ha707, e⟩ := e
      obtain ⟨v708, e1, e⟩ := e
      refine xw_hial (o := l0) (show xm_Imp g Γ 2661 (xi_ial 2662) from xs_ial hG hΓ dL_law_2661) ha707 e1 ?_
      refine xw_aldo (x := l3) (show xm_Imp g Γ 2662 (xi_ald 3 2663) from xs_aload_n hΓ dL_law_2662) rfl ?_
      obtain ⟨m709, m710, ⟨em1, em2⟩, e⟩ := e
      refine xw_tsi3 (show xm_Imp g Γ 2663 (xi_inv g M_X0_agreeing 11 3 2666) from xs_invSW hG hΓ k_X0_agreeing rfl q2765 q2766 dL_law_2663) rfl em1 em2 (K_X0_agreeing hG l1 v708 l3 _ _ _ e) (fun v712 h711 e => ?_)
      refine xw_ist (ls' := [some (va_rf l0), some (va_rf l1), some (va_rf l2), some (va_rf l3), some (va_rf l4), some (.int l5), some (.int v712), none, none]) (show xm_Imp g Γ 2666 (xi_ist 6 2668) from xs_istore hΓ dL_law_2666 (Nat.le_of_ble_eq_true rfl)) rfl ?_
      refine xw_aldo (x := l2) (show xm_Imp g Γ 2668 (xi_ald 2 2669) from xs_aload_n hΓ dL_law_2668) rfl ?_
      refine xw_aldo (x := l0) (show xm_Imp g Γ 2669 (xi_ald 0 2670) from xs_aload_n hΓ dL_law_2669) rfl ?_
      refine xw_ild (show xm_Imp g Γ 2670 (xi_ild 5 2672) from xs_iload hΓ dL_law_2670) rfl ?_
      refine xw_psh (v := (.int (1))) (show xm_Imp g Γ 2672 (xi_psh (.int (1)) 2673) from xs_iconst hΓ dL_law_2672 (by decide)) ?_
      refine xw_ii (show xm_Imp g Γ 2673 (xi_ii (fun x y => x + y) 2674) from xs_iadd hΓ dL_law_2673) ?_
      obtain ⟨v713, e1, e⟩ := e
      refine xw_hial (o := l0) (show xm_Imp g Γ 2674 (xi_ial 2675) from xs_ial hG hΓ dL_law_2674) ha707 e1 ?_
      obtain ⟨a714, ha714, e⟩ := e
      obtain ⟨ad715, σ716, hMad715, hBad715, hhad715, e⟩ := e
      obtain ⟨v717, e1, e⟩ := e
      refine xw_hv1 (o := l2) (u := ()) (show xm_Imp g Γ 2675 (xi_vir g 4 M_X5_agreeing 8 1 2678) from xs_invV hG hΓ k_X5_agreeing rfl (ci := 4) rfl q3476 q3477 q3478 dL_law_2675) (by simp [xm_stk, xv_cat, xc_int, xc_long, xc_float, xc_double, xc_ref]) ha714 (xM_is hhad715) (xM_run hhad715 (fun Q X hQ => K_X5_agreeing hG hMad715 hBad715 v713 σ716 e1 hQ)) ?_
      refine xw_ist (ls' := [some (va_rf l0), some (va_rf l1), some (va_rf l2), some (va_rf l3), some (va_rf l4), some (.int l5), some (.int v712), some (.int v717.1), none]) (show xm_Imp g Γ 2678 (xi_ist 7 2680) from xs_istore hΓ dL_law_2678 (Nat.le_of_ble_eq_true rfl)) rfl ?_
      refine xw_aldo (x := l2) (show xm_Imp g Γ 2680 (xi_ald 2 2681) from xs_aload_n hΓ dL_law_2680) rfl ?_
      obtain ⟨ad718, σ719, hMad718, hBad718, hhad718, e⟩ := e
      obtain ⟨v720, e1, e⟩ := e
      refine xw_hv0 (o := l2) (u := ()) (show xm_Imp g Γ 2681 (xi_vir g 4 M_X5_thrown 1 0 2684) from xs_invV hG hΓ k_X5_thrown rfl (ci := 4) rfl q2978 q2979 q2980 dL_law_2681) (by simp [xm_stk, xv_cat, xc_int, xc_long, xc_float, xc_double, xc_ref]) ha714 (xM_is hhad718) (xM_run0 hhad718 (fun Q X hQ => K_X5_thrown hG hMad718 hBad718 σ719 (Option.some.inj e1) hQ)) ?_
      refine xw_ild (show xm_Imp g Γ 2684 (xi_ild 6 2686) from xs_iload hΓ dL_law_2684) rfl ?_
      refine xw_ic (show xm_Imp g Γ 2686 (xi_ic (fun x y => x = y) 2691 2689) from xs_icmp_eq hΓ dL_law_2686 (by decide)) (fun c => ?_) (fun c => ?_)
      · rw [if_pos c] at e
        refine xw_ild (show xm_Imp g Γ 2691 (xi_ild 6 2693) from xs_iload hΓ dL_law_2691) rfl ?_
        refine xw_if (show xm_Imp g Γ 2693 (xi_if (fun x => x = 0) 2696 2708) from xs_if_ne hΓ dL_law_2693 (by decide)) (fun c => ?_) (fun c => ?_)
        · rw [if_pos c] at e
          refine xw_aldo (x := l3) (show xm_Imp g Γ 2696 (xi_ald 3 2697) from xs_aload_n hΓ dL_law_2696) rfl ?_
          refine xw_psh (v := (.int (0))) (show xm_Imp g Γ 2697 (xi_psh (.int (0)) 2698) from xs_iconst hΓ dL_law_2697 (by decide)) ?_
          obtain ⟨a721, ha721, e⟩ := e
          obtain ⟨v722, e1, e⟩ := e
          refine xw_hlal (o := l3) (show xm_Imp g Γ 2698 (xi_lal 2699) from xs_lal hG hΓ dL_law_2698) ha721 e1 ?_
          refine xw_ild (show xm_Imp g Γ 2699 (xi_ild 7 2701) from xs_iload hΓ dL_law_2699) rfl ?_
          refine xw_i2l (show xm_Imp g Γ 2701 (xi_i2l 2702) from xs_i2l hΓ dL_law_2701) ?_
          refine xw_lcmp (show xm_Imp g Γ 2702 (xi_lcmp 2703) from xs_lcmp hΓ dL_law_2702) ?_
          refine xw_if (show xm_Imp g Γ 2703 (xi_if (fun x => x = 0) 2708 2706) from xs_if_eq hΓ dL_law_2703 (by decide)) (fun c => ?_) (fun c => ?_)
          · rw [if_pos c] at e
            exact xm_lx (hB_2708 _ _ _ _ e) (And.intro rfl (And.intro rfl (And.intro rfl (And.intro rfl (And.intro rfl (And.intro rfl (trivial)))))))
          · rw [if_neg c] at e
            refine xw_psh (v := (.int (0))) (show xm_Imp g Γ 2706 (xi_psh (.int (0)) 2707) from xs_iconst hΓ dL_law_2706 (by decide)) ?_
            exact xw_iret (show xm_Imp g Γ 2707 (xi_iret .boolean _) from xs_ireturn hΓ rfl dL_law_2707) rfl ⟨_, rfl, e⟩
        · rw [if_neg c] at e
          exact xm_lx (hB_2708 _ _ _ _ e) (And.intro rfl (And.intro rfl (And.intro rfl (And.intro rfl (And.intro rfl (And.intro rfl (trivial)))))))
      · rw [if_neg c] at e
        refine xw_psh (v := (.int (0))) (show xm_Imp g Γ 2689 (xi_psh (.int (0)) 2690) from xs_iconst hΓ dL_law_2689 (by decide)) ?_
        exact xw_iret (show xm_Imp g Γ 2690 (xi_iret .boolean _) from xs_ireturn hΓ rfl dL_law_2690) rfl ⟨_, rfl, e⟩
    have hB_2764 : ∀ (l5 : Int32) (h : xm_H) (bc : Nat) (bs : Nat), B_L_law_2764 g l0 l1 l2 l3 l4 l5 h bc bs k28 Q → xm_W g Γ 2764 [some (va_rf l0), some (va_rf l1), some (va_rf l2), some (va_rf l3), some (va_rf l4), some (.int l5), none, none, none] [] h bc bs := by
      intro l5 h bc bs e
      unfold B_L_law_2764 at e
      refine xw_goto (show xm_Imp g Γ 2764 (xi_goto 2924) from xs_goto hΓ dL_law_2764 (by decide)) ?_
      exact hB_2924 _ _ _ _ e
    have hB_2711 : ∀ (l5 : Int32) (h : xm_H) (bc : Nat) (bs : Nat), B_L_law_2711 g l0 l1 l2 l3 l4 l5 h bc bs k28 Q → xm_W g Γ 2711 [some (va_rf l0), some (va_rf l1), some (va_rf l2), some (va_rf l3), some (va_rf l4), some (.int l5), none, none, none] [] h bc bs := by
      intro l5 h bc bs e
      unfold B_L_law_2711 at e
      refine xw_aldo (x := l1) (show xm_Imp g Γ 2711 (xi_ald 1 2712) from xs_aload_n hΓ dL_law_2711) rfl ?_
      refine xw_aldo (x := l0) (show xm_Imp g Γ 2712 (xi_ald 0 2713) from xs_aload_n hΓ dL_law_2712) rfl ?_
      refine xw_ild (show xm_Imp g Γ 2713 (xi_ild 5 2715) from xs_iload hΓ dL_law_2713) rfl ?_
      refine xw_psh (v := (.int (1))) (show xm_Imp g Γ 2715 (xi_psh (.int (1)) 2716) from xs_iconst hΓ dL_law_2715 (by decide)) ?_
      refine xw_ii (show xm_Imp g Γ 2716 (xi_ii (fun x y => x + y) 2717) from xs_iadd hΓ dL_law_2716) ?_
      obtain ⟨a723, ha723, e⟩ := e
      obtain ⟨v724, e1, e⟩ := e
      refine xw_hial (o := l0) (show xm_Imp g Γ 2717 (xi_ial 2718) from xs_ial hG hΓ dL_law_2717) ha723 e1 ?_
      refine xw_aldo (x := l3) (show xm_Imp g Γ 2718 (xi_ald 3 2719) from xs_aload_n hΓ dL_law_2718) rfl ?_
      obtain ⟨m725, m726, ⟨em1, em2⟩, e⟩ := e
      refine xw_tsi3 (show xm_Imp g Γ 2719 (xi_inv g M_X0_outsiders 11 3 2722) from xs_invSW hG hΓ k_X0_outsiders rfl q2772 q2773 dL_law_2719) rfl em1 em2 (K_X0_outsiders hG l1 v724 l3 _ _ _ e) (fun v728 h727 e => ?_)
      refine xw_ist (ls' := [some (va_rf l0), some (va_rf l1), some (va_rf l2), some (va_rf l3), some (va_rf l4), some (.int l5), some (.int v728), none, none]) (show xm_Imp g Γ 2722 (xi_ist 6 2724) from xs_istore hΓ dL_law_2722 (Nat.le_of_ble_eq_true rfl)) rfl ?_
      refine xw_aldo (x := l2) (show xm_Imp g Γ 2724 (xi_ald 2 2725) from xs_aload_n hΓ dL_law_2724) rfl ?_
      refine xw_aldo (x := l0) (show xm_Imp g Γ 2725 (xi_ald 0 2726) from xs_aload_n hΓ dL_law_2725) rfl ?_
      refine xw_ild (show xm_Imp g Γ 2726 (xi_ild 5 2728) from xs_iload hΓ dL_law_2726) rfl ?_
      refine xw_psh (v := (.int (1))) (show xm_Imp g Γ 2728 (xi_psh (.int (1)) 2729) from xs_iconst hΓ dL_law_2728 (by decide)) ?_
      refine xw_ii (show xm_Imp g Γ 2729 (xi_ii (fun x y => x + y) 2730) from xs_iadd hΓ dL_law_2729) ?_
      obtain ⟨v729, e1, e⟩ := e
      refine xw_hial (o := l0) (show xm_Imp g Γ 2730 (xi_ial 2731) from xs_ial hG hΓ dL_law_2730) ha723 e1 ?_
      obtain ⟨a730, ha730, e⟩ := e
      obtain ⟨ad731, σ732, hMad731, hBad731, hhad731, e⟩ := e
      obtain ⟨v733, e1, e⟩ := e
      refine xw_hv1 (o := l2) (u := ()) (show xm_Imp g Γ 2731 (xi_vir g 4 M_X5_outsiders 7 1 2734) from xs_invV hG hΓ k_X5_outsiders rfl (ci := 4) rfl q3480 q3481 q3482 dL_law_2731) (by simp [xm_stk, xv_cat, xc_int, xc_long, xc_float, xc_double, xc_ref]) ha730 (xM_is hhad731) (xM_run hhad731 (fun Q X hQ => K_X5_outsiders hG hMad731 hBad731 v729 σ732 e1 hQ)) ?_
      refine xw_ist (ls' := [some (va_rf l0), some (va_rf l1), some (va_rf l2), some (va_rf l3), some (va_rf l4), some (.int l5), some (.int v728), some (.int v733.1), none]) (show xm_Imp g Γ 2734 (xi_ist 7 2736) from xs_istore hΓ dL_law_2734 (Nat.le_of_ble_eq_true rfl)) rfl ?_
      refine xw_aldo (x := l2) (show xm_Imp g Γ 2736 (xi_ald 2 2737) from xs_aload_n hΓ dL_law_2736) rfl ?_
      obtain ⟨ad734, σ735, hMad734, hBad734, hhad734, e⟩ := e
      obtain ⟨v736, e1, e⟩ := e
      refine xw_hv0 (o := l2) (u := ()) (show xm_Imp g Γ 2737 (xi_vir g 4 M_X5_thrown 1 0 2740) from xs_invV hG hΓ k_X5_thrown rfl (ci := 4) rfl q2978 q2979 q2980 dL_law_2737) (by simp [xm_stk, xv_cat, xc_int, xc_long, xc_float, xc_double, xc_ref]) ha730 (xM_is hhad734) (xM_run0 hhad734 (fun Q X hQ => K_X5_thrown hG hMad734 hBad734 σ735 (Option.some.inj e1) hQ)) ?_
      refine xw_ild (show xm_Imp g Γ 2740 (xi_ild 6 2742) from xs_iload hΓ dL_law_2740) rfl ?_
      refine xw_ic (show xm_Imp g Γ 2742 (xi_ic (fun x y => x = y) 2747 2745) from xs_icmp_eq hΓ dL_law_2742 (by decide)) (fun c => ?_) (fun c => ?_)
      · rw [if_pos c] at e
        refine xw_ild (show xm_Imp g Γ 2747 (xi_ild 6 2749) from xs_iload hΓ dL_law_2747) rfl ?_
        refine xw_if (show xm_Imp g Γ 2749 (xi_if (fun x => x = 0) 2752 2764) from xs_if_ne hΓ dL_law_2749 (by decide)) (fun c => ?_) (fun c => ?_)
        · rw [if_pos c] at e
          refine xw_aldo (x := l3) (show xm_Imp g Γ 2752 (xi_ald 3 2753) from xs_aload_n hΓ dL_law_2752) rfl ?_
          refine xw_psh (v := (.int (0))) (show xm_Imp g Γ 2753 (xi_psh (.int (0)) 2754) from xs_iconst hΓ dL_law_2753 (by decide)) ?_
          obtain ⟨a737, ha737, e⟩ := e
          obtain ⟨v738, e1, e⟩ := e
          refine xw_hlal (o := l3) (show xm_Imp g Γ 2754 (xi_lal 2755) from xs_lal hG hΓ dL_law_2754) ha737 e1 ?_
          refine xw_ild (show xm_Imp g Γ 2755 (xi_ild 7 2757) from xs_iload hΓ dL_law_2755) rfl ?_
          refine xw_i2l (show xm_Imp g Γ 2757 (xi_i2l 2758) from xs_i2l hΓ dL_law_2757) ?_
          refine xw_lcmp (show xm_Imp g Γ 2758 (xi_lcmp 2759) from xs_lcmp hΓ dL_law_2758) ?_
          refine xw_if (show xm_Imp g Γ 2759 (xi_if (fun x => x = 0) 2764 2762) from xs_if_eq hΓ dL_law_2759 (by decide)) (fun c => ?_) (fun c => ?_)
          · rw [if_pos c] at e
            exact xm_lx (hB_2764 _ _ _ _ e) (And.intro rfl (And.intro rfl (And.intro rfl (And.intro rfl (And.intro rfl (And.intro rfl (trivial)))))))
          · rw [if_neg c] at e
            refine xw_psh (v := (.int (0))) (show xm_Imp g Γ 2762 (xi_psh (.int (0)) 2763) from xs_iconst hΓ dL_law_2762 (by decide)) ?_
            exact xw_iret (show xm_Imp g Γ 2763 (xi_iret .boolean _) from xs_ireturn hΓ rfl dL_law_2763) rfl ⟨_, rfl, e⟩
        · rw [if_neg c] at e
          exact xm_lx (hB_2764 _ _ _ _ e) (And.intro rfl (And.intro rfl (And.intro rfl (And.intro rfl (And.intro rfl (And.intro rfl (trivial)))))))
      · rw [if_neg c] at e
        refine xw_psh (v := (.int (0))) (show xm_Imp g Γ 2745 (xi_psh (.int (0)) 2746) from xs_iconst hΓ dL_law_2745 (by decide)) ?_
        exact xw_iret (show xm_Imp g Γ 2746 (xi_iret .boolean _) from xs_ireturn hΓ rfl dL_law_2746) rfl ⟨_, rfl, e⟩
    have hB_2842 : ∀ (l5 : Int32) (h : xm_H) (bc : Nat) (bs : Nat), B_L_law_2842 g l0 l1 l2 l3 l4 l5 h bc bs k28 Q → xm_W g Γ 2842 [some (va_rf l0), some (va_rf l1), some (va_rf l2), some (va_rf l3), some (va_rf l4), some (.int l5), none, none, none] [] h bc bs := by
      intro l5 h bc bs e
      unfold B_L_law_2842 at e
      refine xw_goto (show xm_Imp g Γ 2842 (xi_goto 2924) from xs_goto hΓ dL_law_2842 (by decide)) ?_
      exact hB_2924 _ _ _ _ e
    have hB_2767 : ∀ (l5 : Int32) (h : xm_H) (bc : Nat) (bs : Nat), B_L_law_2767 g l0 l1 l2 l3 l4 l5 h bc bs k28 Q → xm_W g Γ 2767 [some (va_rf l0), some (va_rf l1), some (va_rf l2), some (va_rf l3), some (va_rf l4), some (.int l5), none, none, none] [] h bc bs := by
      intro l5 h bc bs e
      unfold B_L_law_2767 at e
      refine xw_aldo (x := l1) (show xm_Imp g Γ 2767 (xi_ald 1 2768) from xs_aload_n hΓ dL_law_2767) rfl ?_
      refine xw_aldo (x := l0) (show xm_Imp g Γ 2768 (xi_ald 0 2769) from xs_aload_n hΓ dL_law_2768) rfl ?_
      refine xw_ild (show xm_Imp g Γ 2769 (xi_ild 5 2771) from xs_iload hΓ dL_law_2769) rfl ?_
      refine xw_psh (v := (.int (1))) (show xm_Imp g Γ 2771 (xi_psh (.int (1)) 2772) from xs_iconst hΓ dL_law_2771 (by decide)) ?_
      refine xw_ii (show xm_Imp g Γ 2772 (xi_ii (fun x y => x + y) 2773) from xs_iadd hΓ dL_law_2772) ?_
      obtain ⟨a739, ha739, e⟩ := e
      obtain ⟨v740, e1, e⟩ := e
      refine xw_hial (o := l0) (show xm_Imp g Γ 2773 (xi_ial 2774) from xs_ial hG hΓ dL_law_2773) ha739 e1 ?_
      refine xw_aldo (x := l4) (show xm_Imp g Γ 2774 (xi_ald 4 2776) from xs_aload hΓ dL_law_2774) rfl ?_
      obtain ⟨m741, m742, ⟨em1, em2⟩, e⟩ := e
      refine xw_tsi3 (show xm_Imp g Γ 2776 (xi_inv g M_X0_innerSquare 12 3 2779) from xs_invSW hG hΓ k_X0_innerSquare rfl q2832 q2833 dL_law_2776) rfl em1 em2 (K_X0_innerSquare hG l1 v740 l4 _ _ _ e) (fun v744 h743 e => ?_)
      refine xw_ist (ls' := [some (va_rf l0), some (va_rf l1), some (va_rf l2), some (va_rf l3), some (va_rf l4), some (.int l5), some (.int v744), none, none]) (show xm_Imp g Γ 2779 (xi_ist 6 2781) from xs_istore hΓ dL_law_2779 (Nat.le_of_ble_eq_true rfl)) rfl ?_
      refine xw_aldo (x := l2) (show xm_Imp g Γ 2781 (xi_ald 2 2782) from xs_aload_n hΓ dL_law_2781) rfl ?_
      refine xw_aldo (x := l0) (show xm_Imp g Γ 2782 (xi_ald 0 2783) from xs_aload_n hΓ dL_law_2782) rfl ?_
      refine xw_ild (show xm_Imp g Γ 2783 (xi_ild 5 2785) from xs_iload hΓ dL_law_2783) rfl ?_
      refine xw_psh (v := (.int (1))) (show xm_Imp g Γ 2785 (xi_psh (.int (1)) 2786) from xs_iconst hΓ dL_law_2785 (by decide)) ?_
      refine xw_ii (show xm_Imp g Γ 2786 (xi_ii (fun x y => x + y) 2787) from xs_iadd hΓ dL_law_2786) ?_
      obtain ⟨v745, e1, e⟩ := e
      refine xw_hial (o := l0) (show xm_Imp g Γ 2787 (xi_ial 2788) from xs_ial hG hΓ dL_law_2787) ha739 e1 ?_
      obtain ⟨a746, ha746, e⟩ := e
      obtain ⟨ad747, σ748, hMad747, hBad747, hhad747, e⟩ := e
      obtain ⟨v749, e1, e⟩ := e
      refine xw_hv1 (o := l2) (u := ()) (show xm_Imp g Γ 2788 (xi_vir g 4 M_X5_innerSquare 9 1 2791) from xs_invV hG hΓ k_X5_innerSquare rfl (ci := 4) rfl q3484 q3485 q3486 dL_law_2788) (by simp [xm_stk, xv_cat, xc_int, xc_long, xc_float, xc_double, xc_ref]) ha746 (xM_is hhad747) (xM_run hhad747 (fun Q X hQ => K_X5_innerSquare hG hMad747 hBad747 v745 σ748 e1 hQ)) ?_
      refine xw_fst (ls' := [some (va_rf l0), some (va_rf l1), some (va_rf l2), some (va_rf l3), some (va_rf l4), some (.int l5), some (.int v744), some (.float v749.1), none]) (show xm_Imp g Γ 2791 (xi_fst 7 2793) from xs_fstore hΓ dL_law_2791 (Nat.le_of_ble_eq_true rfl)) rfl ?_
      refine xw_aldo (x := l2) (show xm_Imp g Γ 2793 (xi_ald 2 2794) from xs_aload_n hΓ dL_law_2793) rfl ?_
      obtain ⟨ad750, σ751, hMad750, hBad750, hhad750, e⟩ := e
      obtain ⟨v752, e1, e⟩ := e
      refine xw_hv0 (o := l2) (u := ()) (show xm_Imp g Γ 2794 (xi_vir g 4 M_X5_thrown 1 0 2797) from xs_invV hG hΓ k_X5_thrown rfl (ci := 4) rfl q2978 q2979 q2980 dL_law_2794) (by simp [xm_stk, xv_cat, xc_int, xc_long, xc_float, xc_double, xc_ref]) ha746 (xM_is hhad750) (xM_run0 hhad750 (fun Q X hQ => K_X5_thrown hG hMad750 hBad750 σ751 (Option.some.inj e1) hQ)) ?_
      refine xw_ild (show xm_Imp g Γ 2797 (xi_ild 6 2799) from xs_iload hΓ dL_law_2797) rfl ?_
      refine xw_ic (show xm_Imp g Γ 2799 (xi_ic (fun x y => x = y) 2804 2802) from xs_icmp_eq hΓ dL_law_2799 (by decide)) (fun c => ?_) (fun c => ?_)
      · rw [if_pos c] at e
        refine xw_ild (show xm_Imp g Γ 2804 (xi_ild 6 2806) from xs_iload hΓ dL_law_2804) rfl ?_
        refine xw_if (show xm_Imp g Γ 2806 (xi_if (fun x => x = 0) 2809 2842) from xs_if_ne hΓ dL_law_2806 (by decide)) (fun c => ?_) (fun c => ?_)
        · rw [if_pos c] at e
          refine xw_aldo (x := l4) (show xm_Imp g Γ 2809 (xi_ald 4 2811) from xs_aload hΓ dL_law_2809) rfl ?_
          refine xw_psh (v := (.int (0))) (show xm_Imp g Γ 2811 (xi_psh (.int (0)) 2812) from xs_iconst hΓ dL_law_2811 (by decide)) ?_
          obtain ⟨a753, ha753, e⟩ := e
          obtain ⟨v754, e1, e⟩ := e
          refine xw_hdal (o := l4) (show xm_Imp g Γ 2812 (xi_dal 2813) from xs_dal hG hΓ dL_law_2812) ha753 e1 ?_
          refine xw_fld (show xm_Imp g Γ 2813 (xi_fld 7 2815) from xs_fload hΓ dL_law_2813) rfl ?_
          obtain ⟨u755, e1, e⟩ := e
          refine xw_f2d (show xm_Imp g Γ 2815 (xi_f2d 2816) from xs_f2d hΓ dL_law_2815) (xo_g_s e1) ?_
          refine xw_dcmp (show xm_Imp g Γ 2816 (xi_dcmp .l 2817) from xs_dcmp hΓ dL_law_2816) ?_
          refine xw_if (show xm_Imp g Γ 2817 (xi_if (fun x => x = 0) 2842 2820) from xs_if_eq hΓ dL_law_2817 (by decide)) (fun c => ?_) (fun c => ?_)
          · rw [if_pos c] at e
            exact xm_lx (hB_2842 _ _ _ _ e) (And.intro rfl (And.intro rfl (And.intro rfl (And.intro rfl (And.intro rfl (And.intro rfl (trivial)))))))
          · rw [if_neg c] at e
            refine xw_aldo (x := l4) (show xm_Imp g Γ 2820 (xi_ald 4 2822) from xs_aload hΓ dL_law_2820) rfl ?_
            refine xw_psh (v := (.int (0))) (show xm_Imp g Γ 2822 (xi_psh (.int (0)) 2823) from xs_iconst hΓ dL_law_2822 (by decide)) ?_
            obtain ⟨v756, e1, e⟩ := e
            refine xw_hdal (o := l4) (show xm_Imp g Γ 2823 (xi_dal 2824) from xs_dal hG hΓ dL_law_2823) ha753 e1 ?_
            refine xw_aldo (x := l4) (show xm_Imp g Γ 2824 (xi_ald 4 2826) from xs_aload hΓ dL_law_2824) rfl ?_
            refine xw_psh (v := (.int (0))) (show xm_Imp g Γ 2826 (xi_psh (.int (0)) 2827) from xs_iconst hΓ dL_law_2826 (by decide)) ?_
            obtain ⟨v757, e1, e⟩ := e
            refine xw_hdal (o := l4) (show xm_Imp g Γ 2827 (xi_dal 2828) from xs_dal hG hΓ dL_law_2827) ha753 e1 ?_
            refine xw_dcmp (show xm_Imp g Γ 2828 (xi_dcmp .l 2829) from xs_dcmp hΓ dL_law_2828) ?_
            refine xw_if (show xm_Imp g Γ 2829 (xi_if (fun x => x = 0) 2840 2832) from xs_if_eq hΓ dL_law_2829 (by decide)) (fun c => ?_) (fun c => ?_)
            · rw [if_pos c] at e
              refine xw_psh (v := (.int (0))) (show xm_Imp g Γ 2840 (xi_psh (.int (0)) 2841) from xs_iconst hΓ dL_law_2840 (by decide)) ?_
              exact xw_iret (show xm_Imp g Γ 2841 (xi_iret .boolean _) from xs_ireturn hΓ rfl dL_law_2841) rfl ⟨_, rfl, e⟩
            · rw [if_neg c] at e
              refine xw_fld (show xm_Imp g Γ 2832 (xi_fld 7 2834) from xs_fload hΓ dL_law_2832) rfl ?_
              refine xw_fld (show xm_Imp g Γ 2834 (xi_fld 7 2836) from xs_fload hΓ dL_law_2834) rfl ?_
              refine xw_fcmp (show xm_Imp g Γ 2836 (xi_fcmp .l 2837) from xs_fcmp hΓ dL_law_2836) ?_
              refine xw_if (show xm_Imp g Γ 2837 (xi_if (fun x => x = 0) 2840 2842) from xs_if_ne hΓ dL_law_2837 (by decide)) (fun c => ?_) (fun c => ?_)
              · rw [if_pos c] at e
                refine xw_psh (v := (.int (0))) (show xm_Imp g Γ 2840 (xi_psh (.int (0)) 2841) from xs_iconst hΓ dL_law_2840 (by decide)) ?_
                exact xw_iret (show xm_Imp g Γ 2841 (xi_iret .boolean _) from xs_ireturn hΓ rfl dL_law_2841) rfl ⟨_, rfl, e⟩
              · rw [if_neg c] at e
                exact xm_lx (hB_2842 _ _ _ _ e) (And.intro rfl (And.intro rfl (And.intro rfl (And.intro rfl (And.intro rfl (And.intro rfl (trivial)))))))
        · rw [if_neg c] at e
          exact xm_lx (hB_2842 _ _ _ _ e) (And.intro rfl (And.intro rfl (And.intro rfl (And.intro rfl (And.intro rfl (And.intro rfl (trivial)))))))
      · rw [if_neg c] at e
        refine xw_psh (v := (.int (0))) (show xm_Imp g Γ 2802 (xi_psh (.int (0)) 2803) from xs_iconst hΓ dL_law_2802 (by decide)) ?_
        exact xw_iret (show xm_Imp g Γ 2803 (xi_iret .boolean _) from xs_ireturn hΓ rfl dL_law_2803) rfl ⟨_, rfl, e⟩
    have hB_2878 : ∀ (l5 : Int32) (s0 : Int32) (s1 : Option Nat) (s2 : Int32) (h : xm_H) (bc : Nat) (bs : Nat), B_L_law_2878 g l0 l1 l2 l3 l4 l5 s0 s1 s2 h bc bs k28 Q → xm_W g Γ 2878 [some (va_rf l0), some (va_rf l1), some (va_rf l2), some (va_rf l3), some (va_rf l4), some (.int l5), none, none, none] [.int s2, va_rf s1, .int s0] h bc bs := by
      intro l5 s0 s1 s2 h bc bs e
      unfold B_L_law_2878 at e
      obtain ⟨a767, ha767, e⟩ := e
      obtain ⟨ad768, σ769, hMad768, hBad768, hhad768, e⟩ := e
      obtain ⟨v770, e1, e⟩ := e
      refine xw_hv1 (o := s1) (u := ()) (show xm_Imp g Γ 2878 (xi_vir g 4 M_X5_print 13 1 2881) from xs_invV hG hΓ k_X5_print rfl (ci := 4) rfl q3488 q3489 q3490 dL_law_2878) (by simp [xm_stk, xv_cat, xc_int, xc_long, xc_float, xc_double, xc_ref]) ha767 (xM_is hhad768) (xM_run hhad768 (fun Q X hQ => K_X5_print hG hMad768 hBad768 s2 σ769 e1 hQ)) ?_
      refine xw_ic (show xm_Imp g Γ 2881 (xi_ic (fun x y => x = y) 2924 2884) from xs_icmp_eq hΓ dL_law_2881 (by decide)) (fun c => ?_) (fun c => ?_)
      · rw [if_pos c] at e
        exact hB_2924 _ _ _ _ e
      · rw [if_neg c] at e
        refine xw_psh (v := (.int (0))) (show xm_Imp g Γ 2884 (xi_psh (.int (0)) 2885) from xs_iconst hΓ dL_law_2884 (by decide)) ?_
        exact xw_iret (show xm_Imp g Γ 2885 (xi_iret .boolean _) from xs_ireturn hΓ rfl dL_law_2885) rfl ⟨_, rfl, e⟩
    have hB_2860 : ∀ (l5 : Int32) (s0 : Option Nat) (s1 : Int32) (h : xm_H) (bc : Nat) (bs : Nat), B_L_law_2860 g l0 l1 l2 l3 l4 l5 s0 s1 h bc bs k28 Q → xm_W g Γ 2860 [some (va_rf l0), some (va_rf l1), some (va_rf l2), some (va_rf l3), some (va_rf l4), some (.int l5), none, none, none] [.int s1, va_rf s0] h bc bs := by
      intro l5 s0 s1 h bc bs e
      unfold B_L_law_2860 at e
      obtain ⟨a760, ha760, e⟩ := e
      obtain ⟨_, e0, e⟩ := e
      obtain ⟨m761, m762, ⟨em1, em2⟩, e⟩ := e
      refine xw_tvi1 (o := s0) (show xm_Imp g Γ 2860 (xi_vir g 0 M_X1_print 13 1 2863) from xs_invV hG hΓ k_X1_print rfl (ci := 0) rfl q1692 q1693 q1694 dL_law_2860) (by simp [xm_stk, xv_cat, xc_int, xc_long, xc_float, xc_double, xc_ref]) ha760 e0 em1 em2 (K_X1_print hG a760 s1 _ _ _ e) (fun v764 h763 e => ?_)
      refine xw_aldo (x := l2) (show xm_Imp g Γ 2863 (xi_ald 2 2864) from xs_aload_n hΓ dL_law_2863) rfl ?_
      refine xw_aldo (x := l0) (show xm_Imp g Γ 2864 (xi_ald 0 2865) from xs_aload_n hΓ dL_law_2864) rfl ?_
      refine xw_ild (show xm_Imp g Γ 2865 (xi_ild 5 2867) from xs_iload hΓ dL_law_2865) rfl ?_
      refine xw_psh (v := (.int (1))) (show xm_Imp g Γ 2867 (xi_psh (.int (1)) 2868) from xs_iconst hΓ dL_law_2867 (by decide)) ?_
      refine xw_ii (show xm_Imp g Γ 2868 (xi_ii (fun x y => x + y) 2869) from xs_iadd hΓ dL_law_2868) ?_
      obtain ⟨a765, ha765, e⟩ := e
      obtain ⟨v766, e1, e⟩ := e
      refine xw_hial (o := l0) (show xm_Imp g Γ 2869 (xi_ial 2870) from xs_ial hG hΓ dL_law_2869) ha765 e1 ?_
      refine xw_if (show xm_Imp g Γ 2870 (xi_if (fun x => x = 0) 2877 2873) from xs_if_eq hΓ dL_law_2870 (by decide)) (fun c => ?_) (fun c => ?_)
      · rw [if_pos c] at e
        refine xw_psh (v := (.int (0))) (show xm_Imp g Γ 2877 (xi_psh (.int (0)) 2878) from xs_iconst hΓ dL_law_2877 (by decide)) ?_
        exact hB_2878 _ _ _ _ _ _ _ e
      · rw [if_neg c] at e
        refine xw_psh (v := (.int (1))) (show xm_Imp g Γ 2873 (xi_psh (.int (1)) 2874) from xs_iconst hΓ dL_law_2873 (by decide)) ?_
        refine xw_goto (show xm_Imp g Γ 2874 (xi_goto 2878) from xs_goto hΓ dL_law_2874 (by decide)) ?_
        exact hB_2878 _ _ _ _ _ _ _ e
    have hB_2845 : ∀ (l5 : Int32) (h : xm_H) (bc : Nat) (bs : Nat), B_L_law_2845 g l0 l1 l2 l3 l4 l5 h bc bs k28 Q → xm_W g Γ 2845 [some (va_rf l0), some (va_rf l1), some (va_rf l2), some (va_rf l3), some (va_rf l4), some (.int l5), none, none, none] [] h bc bs := by
      intro l5 h bc bs e
      unfold B_L_law_2845 at e
      refine xw_aldo (x := l1) (show xm_Imp g Γ 2845 (xi_ald 1 2846) from xs_aload_n hΓ dL_law_2845) rfl ?_
      refine xw_aldo (x := l0) (show xm_Imp g Γ 2846 (xi_ald 0 2847) from xs_aload_n hΓ dL_law_2846) rfl ?_
      refine xw_ild (show xm_Imp g Γ 2847 (xi_ild 5 2849) from xs_iload hΓ dL_law_2847) rfl ?_
      refine xw_psh (v := (.int (1))) (show xm_Imp g Γ 2849 (xi_psh (.int (1)) 2850) from xs_iconst hΓ dL_law_2849 (by decide)) ?_
      refine xw_ii (show xm_Imp g Γ 2850 (xi_ii (fun x y => x + y) 2851) from xs_iadd hΓ dL_law_2850) ?_
      obtain ⟨a758, ha758, e⟩ := e
      obtain ⟨v759, e1, e⟩ := e
      refine xw_hial (o := l0) (show xm_Imp g Γ 2851 (xi_ial 2852) from xs_ial hG hΓ dL_law_2851) ha758 e1 ?_
      refine xw_if (show xm_Imp g Γ 2852 (xi_if (fun x => x = 0) 2859 2855) from xs_if_eq hΓ dL_law_2852 (by decide)) (fun c => ?_) (fun c => ?_)
      · rw [if_pos c] at e
        refine xw_psh (v := (.int (0))) (show xm_Imp g Γ 2859 (xi_psh (.int (0)) 2860) from xs_iconst hΓ dL_law_2859 (by decide)) ?_
        exact hB_2860 _ _ _ _ _ _ e
      · rw [if_neg c] at e
        refine xw_psh (v := (.int (1))) (show xm_Imp g Γ 2855 (xi_psh (.int (1)) 2856) from xs_iconst hΓ dL_law_2855 (by decide)) ?_
        refine xw_goto (show xm_Imp g Γ 2856 (xi_goto 2860) from xs_goto hΓ dL_law_2856 (by decide)) ?_
        exact hB_2860 _ _ _ _ _ _ e
    have hB_2886 : ∀ (l5 : Int32) (h : xm_H) (bc : Nat) (bs : Nat), B_L_law_2886 g l0 l1 l2 l3 l4 l5 h bc bs k28 Q → xm_W g Γ 2886 [some (va_rf l0), some (va_rf l1), some (va_rf l2), some (va_rf l3), some (va_rf l4), some (.int l5), none, none, none] [] h bc bs := by
      intro l5 h bc bs e
      unfold B_L_law_2886 at e
      refine xw_aldo (x := l1) (show xm_Imp g Γ 2886 (xi_ald 1 2887) from xs_aload_n hΓ dL_law_2886) rfl ?_
      obtain ⟨a771, ha771, e⟩ := e
      obtain ⟨_, e0, e⟩ := e
      obtain ⟨m772, m773, ⟨em1, em2⟩, e⟩ := e
      refine xw_tvi0 (o := l1) (show xm_Imp g Γ 2887 (xi_vir g 0 M_X1_printProgram 14 0 2890) from xs_invV hG hΓ k_X1_printProgram rfl (ci := 0) rfl q1773 q1774 q1775 dL_law_2887) (by simp [xm_stk, xv_cat, xc_int, xc_long, xc_float, xc_double, xc_ref]) ha771 e0 em1 em2 (K_X1_printProgram hG a771 _ _ _ e) (fun v775 h774 e => ?_)
      refine xw_aldo (x := l2) (show xm_Imp g Γ 2890 (xi_ald 2 2891) from xs_aload_n hΓ dL_law_2890) rfl ?_
      obtain ⟨a776, ha776, e⟩ := e
      obtain ⟨ad777, σ778, hMad777, hBad777, hhad777, e⟩ := e
      obtain ⟨v779, e1, e⟩ := e
      refine xw_hv0 (o := l2) (u := ()) (show xm_Imp g Γ 2891 (xi_vir g 4 M_X5_printProgram 14 0 2894) from xs_invV hG hΓ k_X5_printProgram rfl (ci := 4) rfl q3501 q3502 q3503 dL_law_2891) (by simp [xm_stk, xv_cat, xc_int, xc_long, xc_float, xc_double, xc_ref]) ha776 (xM_is hhad777) (xM_run hhad777 (fun Q X hQ => K_X5_printProgram hG hMad777 hBad777 σ778 e1 hQ)) ?_
      refine xw_ic (show xm_Imp g Γ 2894 (xi_ic (fun x y => x = y) 2924 2897) from xs_icmp_eq hΓ dL_law_2894 (by decide)) (fun c => ?_) (fun c => ?_)
      · rw [if_pos c] at e
        exact hB_2924 _ _ _ _ e
      · rw [if_neg c] at e
        refine xw_psh (v := (.int (0))) (show xm_Imp g Γ 2897 (xi_psh (.int (0)) 2898) from xs_iconst hΓ dL_law_2897 (by decide)) ?_
        exact xw_iret (show xm_Imp g Γ 2898 (xi_iret .boolean _) from xs_ireturn hΓ rfl dL_law_2898) rfl ⟨_, rfl, e⟩
    have hB_2899 : ∀ (l5 : Int32) (h : xm_H) (bc : Nat) (bs : Nat), B_L_law_2899 g l0 l1 l2 l3 l4 l5 h bc bs k28 Q → xm_W g Γ 2899 [some (va_rf l0), some (va_rf l1), some (va_rf l2), some (va_rf l3), some (va_rf l4), some (.int l5), none, none, none] [] h bc bs := by
      intro l5 h bc bs e
      unfold B_L_law_2899 at e
      refine xw_aldo (x := l1) (show xm_Imp g Γ 2899 (xi_ald 1 2900) from xs_aload_n hΓ dL_law_2899) rfl ?_
      refine xw_aldo (x := l0) (show xm_Imp g Γ 2900 (xi_ald 0 2901) from xs_aload_n hΓ dL_law_2900) rfl ?_
      refine xw_ild (show xm_Imp g Γ 2901 (xi_ild 5 2903) from xs_iload hΓ dL_law_2901) rfl ?_
      refine xw_psh (v := (.int (1))) (show xm_Imp g Γ 2903 (xi_psh (.int (1)) 2904) from xs_iconst hΓ dL_law_2903 (by decide)) ?_
      refine xw_ii (show xm_Imp g Γ 2904 (xi_ii (fun x y => x + y) 2905) from xs_iadd hΓ dL_law_2904) ?_
      obtain ⟨a780, ha780, e⟩ := e
      obtain ⟨v781, e1, e⟩ := e
      refine xw_hial (o := l0) (show xm_Imp g Γ 2905 (xi_ial 2906) from xs_ial hG hΓ dL_law_2905) ha780 e1 ?_
      obtain ⟨a782, ha782, e⟩ := e
      obtain ⟨_, e0, e⟩ := e
      obtain ⟨v783, e1, e⟩ := e
      refine xw_hv1 (o := l1) (show xm_Imp g Γ 2906 (xi_vir g 0 M_X1_outputByte 12 1 2909) from xs_invV hG hΓ k_X1_outputByte rfl (ci := 0) rfl q1813 q1814 q1815 dL_law_2906) (by simp [xm_stk, xv_cat, xc_int, xc_long, xc_float, xc_double, xc_ref]) ha782 e0 (fun Q X hQ => K_X1_outputByte hG a782 v781 _ e1 hQ) ?_
      refine xw_aldo (x := l2) (show xm_Imp g Γ 2909 (xi_ald 2 2910) from xs_aload_n hΓ dL_law_2909) rfl ?_
      refine xw_aldo (x := l0) (show xm_Imp g Γ 2910 (xi_ald 0 2911) from xs_aload_n hΓ dL_law_2910) rfl ?_
      refine xw_ild (show xm_Imp g Γ 2911 (xi_ild 5 2913) from xs_iload hΓ dL_law_2911) rfl ?_
      refine xw_psh (v := (.int (1))) (show xm_Imp g Γ 2913 (xi_psh (.int (1)) 2914) from xs_iconst hΓ dL_law_2913 (by decide)) ?_
      refine xw_ii (show xm_Imp g Γ 2914 (xi_ii (fun x y => x + y) 2915) from xs_iadd hΓ dL_law_2914) ?_
      obtain ⟨v784, e1, e⟩ := e
      refine xw_hial (o := l0) (show xm_Imp g Γ 2915 (xi_ial 2916) from xs_ial hG hΓ dL_law_2915) ha780 e1 ?_
      obtain ⟨a785, ha785, e⟩ := e
      obtain ⟨ad786, σ787, hMad786, hBad786, hhad786, e⟩ := e
      obtain ⟨v788, e1, e⟩ := e
      refine xw_hv1 (o := l2) (u := ()) (show xm_Imp g Γ 2916 (xi_vir g 4 M_X5_outputByte 2 1 2919) from xs_invV hG hΓ k_X5_outputByte rfl (ci := 4) rfl q3517 q3518 q3519 dL_law_2916) (by simp [xm_stk, xv_cat, xc_int, xc_long, xc_float, xc_double, xc_ref]) ha785 (xM_is hhad786) (xM_run hhad786 (fun Q X hQ => K_X5_outputByte hG hMad786 hBad786 v784 σ787 e1 hQ)) ?_
      refine xw_ic (show xm_Imp g Γ 2919 (xi_ic (fun x y => x = y) 2924 2922) from xs_icmp_eq hΓ dL_law_2919 (by decide)) (fun c => ?_) (fun c => ?_)
      · rw [if_pos c] at e
        exact hB_2924 _ _ _ _ e
      · rw [if_neg c] at e
        refine xw_psh (v := (.int (0))) (show xm_Imp g Γ 2922 (xi_psh (.int (0)) 2923) from xs_iconst hΓ dL_law_2922 (by decide)) ?_
        exact xw_iret (show xm_Imp g Γ 2923 (xi_iret .boolean _) from xs_ireturn hΓ rfl dL_law_2923) rfl ⟨_, rfl, e⟩
    unfold D_L_law_28 at e
    refine xw_ild (show xm_Imp g Γ 28 (xi_ild 5 30) from xs_iload hΓ dL_law_28) rfl ?_
    refine xw_aldo (x := l0) (show xm_Imp g Γ 30 (xi_ald 0 31) from xs_aload_n hΓ dL_law_30) rfl ?_
    obtain ⟨a27, ha27, e⟩ := e
    obtain ⟨v28, e1, e⟩ := e
    refine xw_hlen (o := l0) (show xm_Imp g Γ 31 (xi_len 32) from xs_len hG hΓ dL_law_31) ha27 e1 ?_
    refine xw_psh (v := (.int (6))) (show xm_Imp g Γ 32 (xi_psh (.int (6)) 34) from xs_bipush hΓ dL_law_32 (by decide)) ?_
    refine xw_ii (show xm_Imp g Γ 34 (xi_ii (fun x y => x - y) 35) from xs_isub hΓ dL_law_34) ?_
    refine xw_ic (show xm_Imp g Γ 35 (xi_ic (fun x y => y < x) 2930 38) from xs_icmp_gt hΓ dL_law_35 (by decide)) (fun c => ?_) (fun c => ?_)
    · rw [if_pos c] at e
      refine xw_psh (v := (.int (1))) (show xm_Imp g Γ 2930 (xi_psh (.int (1)) 2931) from xs_iconst hΓ dL_law_2930 (by decide)) ?_
      exact xw_iret (show xm_Imp g Γ 2931 (xi_iret .boolean _) from xs_ireturn hΓ rfl dL_law_2931) rfl ⟨_, rfl, e⟩
    · rw [if_neg c] at e
      refine xw_aldo (x := l0) (show xm_Imp g Γ 38 (xi_ald 0 39) from xs_aload_n hΓ dL_law_38) rfl ?_
      refine xw_ild (show xm_Imp g Γ 39 (xi_ild 5 41) from xs_iload hΓ dL_law_39) rfl ?_
      obtain ⟨v29, e1, e⟩ := e
      refine xw_hial (o := l0) (show xm_Imp g Γ 41 (xi_ial 42) from xs_ial hG hΓ dL_law_41) ha27 e1 ?_
      refine xw_psh (v := (.int (63))) (show xm_Imp g Γ 42 (xi_psh (.int (63)) 44) from xs_bipush hΓ dL_law_42 (by decide)) ?_
      refine xw_ii (show xm_Imp g Γ 44 (xi_ii (fun x y => x &&& y) 45) from xs_iand hΓ dL_law_44) ?_
      by_cases c0 : (v29 &&& 63) = 0
      · rw [if_pos c0] at e
        refine xw_tsi (show xm_Imp g Γ 45 (xi_tsw 0 49 [260, 333, 358, 371, 384, 397, 422, 490, 570, 678, 722, 735, 791, 804, 860, 873, 929, 973, 1041, 1109, 1177, 1245, 1344, 1436, 1504, 1572, 1640, 1708, 1733, 1789, 1893, 1997, 2065, 2121, 2134, 2190, 2258, 2302, 2358, 2371, 2448, 2473, 2536, 2599, 2655, 2711, 2767, 2845, 2886, 2899] 2924) from xs_tsw hΓ dL_law_45 (by decide) (by decide) (by decide)) (i := 0) rfl (by rw [c0]; decide) (by decide) ?_
        exact hB_260 _ _ _ _ e
      rw [if_neg c0] at e
      by_cases c1 : (v29 &&& 63) = 1
      · rw [if_pos c1] at e
        refine xw_tsi (show xm_Imp g Γ 45 (xi_tsw 0 49 [260, 333, 358, 371, 384, 397, 422, 490, 570, 678, 722, 735, 791, 804, 860, 873, 929, 973, 1041, 1109, 1177, 1245, 1344, 1436, 1504, 1572, 1640, 1708, 1733, 1789, 1893, 1997, 2065, 2121, 2134, 2190, 2258, 2302, 2358, 2371, 2448, 2473, 2536, 2599, 2655, 2711, 2767, 2845, 2886, 2899] 2924) from xs_tsw hΓ dL_law_45 (by decide) (by decide) (by decide)) (i := 1) rfl (by rw [c1]; decide) (by decide) ?_
        exact hB_333 _ _ _ _ e
      rw [if_neg c1] at e
      by_cases c2 : (v29 &&& 63) = 2
      · rw [if_pos c2] at e
        refine xw_tsi (show xm_Imp g Γ 45 (xi_tsw 0 49 [260, 333, 358, 371, 384, 397, 422, 490, 570, 678, 722, 735, 791, 804, 860, 873, 929, 973, 1041, 1109, 1177, 1245, 1344, 1436, 1504, 1572, 1640, 1708, 1733, 1789, 1893, 1997, 2065, 2121, 2134, 2190, 2258, 2302, 2358, 2371, 2448, 2473, 2536, 2599, 2655, 2711, 2767, 2845, 2886, 2899] 2924) from xs_tsw hΓ dL_law_45 (by decide) (by decide) (by decide)) (i := 2) rfl (by rw [c2]; decide) (by decide) ?_
        exact hB_358 _ _ _ _ e
      rw [if_neg c2] at e
      by_cases c3 : (v29 &&& 63) = 3
      · rw [if_pos c3] at e
        refine xw_tsi (show xm_Imp g Γ 45 (xi_tsw 0 49 [260, 333, 358, 371, 384, 397, 422, 490, 570, 678, 722, 735, 791, 804, 860, 873, 929, 973, 1041, 1109, 1177, 1245, 1344, 1436, 1504, 1572, 1640, 1708, 1733, 1789, 1893, 1997, 2065, 2121, 2134, 2190, 2258, 2302, 2358, 2371, 2448, 2473, 2536, 2599, 2655, 2711, 2767, 2845, 2886, 2899] 2924) from xs_tsw hΓ dL_law_45 (by decide) (by decide) (by decide)) (i := 3) rfl (by rw [c3]; decide) (by decide) ?_
        exact hB_371 _ _ _ _ e
      rw [if_neg c3] at e
      by_cases c4 : (v29 &&& 63) = 4
      · rw [if_pos c4] at e
        refine xw_tsi (show xm_Imp g Γ 45 (xi_tsw 0 49 [260, 333, 358, 371, 384, 397, 422, 490, 570, 678, 722, 735, 791, 804, 860, 873, 929, 973, 1041, 1109, 1177, 1245, 1344, 1436, 1504, 1572, 1640, 1708, 1733, 1789, 1893, 1997, 2065, 2121, 2134, 2190, 2258, 2302, 2358, 2371, 2448, 2473, 2536, 2599, 2655, 2711, 2767, 2845, 2886, 2899] 2924) from xs_tsw hΓ dL_law_45 (by decide) (by decide) (by decide)) (i := 4) rfl (by rw [c4]; decide) (by decide) ?_
        exact hB_384 _ _ _ _ e
      rw [if_neg c4] at e
      by_cases c5 : (v29 &&& 63) = 5
      · rw [if_pos c5] at e
        refine xw_tsi (show xm_Imp g Γ 45 (xi_tsw 0 49 [260, 333, 358, 371, 384, 397, 422, 490, 570, 678, 722, 735, 791, 804, 860, 873, 929, 973, 1041, 1109, 1177, 1245, 1344, 1436, 1504, 1572, 1640, 1708, 1733, 1789, 1893, 1997, 2065, 2121, 2134, 2190, 2258, 2302, 2358, 2371, 2448, 2473, 2536, 2599, 2655, 2711, 2767, 2845, 2886, 2899] 2924) from xs_tsw hΓ dL_law_45 (by decide) (by decide) (by decide)) (i := 5) rfl (by rw [c5]; decide) (by decide) ?_
        exact hB_397 _ _ _ _ e
      rw [if_neg c5] at e
      by_cases c6 : (v29 &&& 63) = 6
      · rw [if_pos c6] at e
        refine xw_tsi (show xm_Imp g Γ 45 (xi_tsw 0 49 [260, 333, 358, 371, 384, 397, 422, 490, 570, 678, 722, 735, 791, 804, 860, 873, 929, 973, 1041, 1109, 1177, 1245, 1344, 1436, 1504, 1572, 1640, 1708, 1733, 1789, 1893, 1997, 2065, 2121, 2134, 2190, 2258, 2302, 2358, 2371, 2448, 2473, 2536, 2599, 2655, 2711, 2767, 2845, 2886, 2899] 2924) from xs_tsw hΓ dL_law_45 (by decide) (by decide) (by decide)) (i := 6) rfl (by rw [c6]; decide) (by decide) ?_
        exact hB_422 _ _ _ _ e
      rw [if_neg c6] at e
      by_cases c7 : (v29 &&& 63) = 7
      · rw [if_pos c7] at e
        refine xw_tsi (show xm_Imp g Γ 45 (xi_tsw 0 49 [260, 333, 358, 371, 384, 397, 422, 490, 570, 678, 722, 735, 791, 804, 860, 873, 929, 973, 1041, 1109, 1177, 1245, 1344, 1436, 1504, 1572, 1640, 1708, 1733, 1789, 1893, 1997, 2065, 2121, 2134, 2190, 2258, 2302, 2358, 2371, 2448, 2473, 2536, 2599, 2655, 2711, 2767, 2845, 2886, 2899] 2924) from xs_tsw hΓ dL_law_45 (by decide) (by decide) (by decide)) (i := 7) rfl (by rw [c7]; decide) (by decide) ?_
        exact hB_490 _ _ _ _ e
      rw [if_neg c7] at e
      by_cases c8 : (v29 &&& 63) = 8
      · rw [if_pos c8] at e
        refine xw_tsi (show xm_Imp g Γ 45 (xi_tsw 0 49 [260, 333, 358, 371, 384, 397, 422, 490, 570, 678, 722, 735, 791, 804, 860, 873, 929, 973, 1041, 1109, 1177, 1245, 1344, 1436, 1504, 1572, 1640, 1708, 1733, 1789, 1893, 1997, 2065, 2121, 2134, 2190, 2258, 2302, 2358, 2371, 2448, 2473, 2536, 2599, 2655, 2711, 2767, 2845, 2886, 2899] 2924) from xs_tsw hΓ dL_law_45 (by decide) (by decide) (by decide)) (i := 8) rfl (by rw [c8]; decide) (by decide) ?_
        exact hB_570 _ _ _ _ e
      rw [if_neg c8] at e
      by_cases c9 : (v29 &&& 63) = 9
      · rw [if_pos c9] at e
        refine xw_tsi (show xm_Imp g Γ 45 (xi_tsw 0 49 [260, 333, 358, 371, 384, 397, 422, 490, 570, 678, 722, 735, 791, 804, 860, 873, 929, 973, 1041, 1109, 1177, 1245, 1344, 1436, 1504, 1572, 1640, 1708, 1733, 1789, 1893, 1997, 2065, 2121, 2134, 2190, 2258, 2302, 2358, 2371, 2448, 2473, 2536, 2599, 2655, 2711, 2767, 2845, 2886, 2899] 2924) from xs_tsw hΓ dL_law_45 (by decide) (by decide) (by decide)) (i := 9) rfl (by rw [c9]; decide) (by decide) ?_
        exact hB_678 _ _ _ _ e
      rw [if_neg c9] at e
      by_cases c10 : (v29 &&& 63) = 10
      · rw [if_pos c10] at e
        refine xw_tsi (show xm_Imp g Γ 45 (xi_tsw 0 49 [260, 333, 358, 371, 384, 397, 422, 490, 570, 678, 722, 735, 791, 804, 860, 873, 929, 973, 1041, 1109, 1177, 1245, 1344, 1436, 1504, 1572, 1640, 1708, 1733, 1789, 1893, 1997, 2065, 2121, 2134, 2190, 2258, 2302, 2358, 2371, 2448, 2473, 2536, 2599, 2655, 2711, 2767, 2845, 2886, 2899] 2924) from xs_tsw hΓ dL_law_45 (by decide) (by decide) (by decide)) (i := 10) rfl (by rw [c10]; decide) (by decide) ?_
        exact hB_722 _ _ _ _ e
      rw [if_neg c10] at e
      by_cases c11 : (v29 &&& 63) = 11
      · rw [if_pos c11] at e
        refine xw_tsi (show xm_Imp g Γ 45 (xi_tsw 0 49 [260, 333, 358, 371, 384, 397, 422, 490, 570, 678, 722, 735, 791, 804, 860, 873, 929, 973, 1041, 1109, 1177, 1245, 1344, 1436, 1504, 1572, 1640, 1708, 1733, 1789, 1893, 1997, 2065, 2121, 2134, 2190, 2258, 2302, 2358, 2371, 2448, 2473, 2536, 2599, 2655, 2711, 2767, 2845, 2886, 2899] 2924) from xs_tsw hΓ dL_law_45 (by decide) (by decide) (by decide)) (i := 11) rfl (by rw [c11]; decide) (by decide) ?_
        exact hB_735 _ _ _ _ e
      rw [if_neg c11] at e
      by_cases c12 : (v29 &&& 63) = 12
      · rw [if_pos c12] at e
        refine xw_tsi (show xm_Imp g Γ 45 (xi_tsw 0 49 [260, 333, 358, 371, 384, 397, 422, 490, 570, 678, 722, 735, 791, 804, 860, 873, 929, 973, 1041, 1109, 1177, 1245, 1344, 1436, 1504, 1572, 1640, 1708, 1733, 1789, 1893, 1997, 2065, 2121, 2134, 2190, 2258, 2302, 2358, 2371, 2448, 2473, 2536, 2599, 2655, 2711, 2767, 2845, 2886, 2899] 2924) from xs_tsw hΓ dL_law_45 (by decide) (by decide) (by decide)) (i := 12) rfl (by rw [c12]; decide) (by decide) ?_
        exact hB_791 _ _ _ _ e
      rw [if_neg c12] at e
      by_cases c13 : (v29 &&& 63) = 13
      · rw [if_pos c13] at e
        refine xw_tsi (show xm_Imp g Γ 45 (xi_tsw 0 49 [260, 333, 358, 371, 384, 397, 422, 490, 570, 678, 722, 735, 791, 804, 860, 873, 929, 973, 1041, 1109, 1177, 1245, 1344, 1436, 1504, 1572, 1640, 1708, 1733, 1789, 1893, 1997, 2065, 2121, 2134, 2190, 2258, 2302, 2358, 2371, 2448, 2473, 2536, 2599, 2655, 2711, 2767, 2845, 2886, 2899] 2924) from xs_tsw hΓ dL_law_45 (by decide) (by decide) (by decide)) (i := 13) rfl (by rw [c13]; decide) (by decide) ?_
        exact hB_804 _ _ _ _ e
      rw [if_neg c13] at e
      by_cases c14 : (v29 &&& 63) = 14
      · rw [if_pos c14] at e
        refine xw_tsi (show xm_Imp g Γ 45 (xi_tsw 0 49 [260, 333, 358, 371, 384, 397, 422, 490, 570, 678, 722, 735, 791, 804, 860, 873, 929, 973, 1041, 1109, 1177, 1245, 1344, 1436, 1504, 1572, 1640, 1708, 1733, 1789, 1893, 1997, 2065, 2121, 2134, 2190, 2258, 2302, 2358, 2371, 2448, 2473, 2536, 2599, 2655, 2711, 2767, 2845, 2886, 2899] 2924) from xs_tsw hΓ dL_law_45 (by decide) (by decide) (by decide)) (i := 14) rfl (by rw [c14]; decide) (by decide) ?_
        exact hB_860 _ _ _ _ e
      rw [if_neg c14] at e
      by_cases c15 : (v29 &&& 63) = 15
      · rw [if_pos c15] at e
        refine xw_tsi (show xm_Imp g Γ 45 (xi_tsw 0 49 [260, 333, 358, 371, 384, 397, 422, 490, 570, 678, 722, 735, 791, 804, 860, 873, 929, 973, 1041, 1109, 1177, 1245, 1344, 1436, 1504, 1572, 1640, 1708, 1733, 1789, 1893, 1997, 2065, 2121, 2134, 2190, 2258, 2302, 2358, 2371, 2448, 2473, 2536, 2599, 2655, 2711, 2767, 2845, 2886, 2899] 2924) from xs_tsw hΓ dL_law_45 (by decide) (by decide) (by decide)) (i := 15) rfl (by rw [c15]; decide) (by decide) ?_
        exact hB_873 _ _ _ _ e
      rw [if_neg c15] at e
      by_cases c16 : (v29 &&& 63) = 16
      · rw [if_pos c16] at e
        refine xw_tsi (show xm_Imp g Γ 45 (xi_tsw 0 49 [260, 333, 358, 371, 384, 397, 422, 490, 570, 678, 722, 735, 791, 804, 860, 873, 929, 973, 1041, 1109, 1177, 1245, 1344, 1436, 1504, 1572, 1640, 1708, 1733, 1789, 1893, 1997, 2065, 2121, 2134, 2190, 2258, 2302, 2358, 2371, 2448, 2473, 2536, 2599, 2655, 2711, 2767, 2845, 2886, 2899] 2924) from xs_tsw hΓ dL_law_45 (by decide) (by decide) (by decide)) (i := 16) rfl (by rw [c16]; decide) (by decide) ?_
        exact hB_929 _ _ _ _ e
      rw [if_neg c16] at e
      by_cases c17 : (v29 &&& 63) = 17
      · rw [if_pos c17] at e
        refine xw_tsi (show xm_Imp g Γ 45 (xi_tsw 0 49 [260, 333, 358, 371, 384, 397, 422, 490, 570, 678, 722, 735, 791, 804, 860, 873, 929, 973, 1041, 1109, 1177, 1245, 1344, 1436, 1504, 1572, 1640, 1708, 1733, 1789, 1893, 1997, 2065, 2121, 2134, 2190, 2258, 2302, 2358, 2371, 2448, 2473, 2536, 2599, 2655, 2711, 2767, 2845, 2886, 2899] 2924) from xs_tsw hΓ dL_law_45 (by decide) (by decide) (by decide)) (i := 17) rfl (by rw [c17]; decide) (by decide) ?_
        exact hB_973 _ _ _ _ e
      rw [if_neg c17] at e
      by_cases c18 : (v29 &&& 63) = 18
      · rw [if_pos c18] at e
        refine xw_tsi (show xm_Imp g Γ 45 (xi_tsw 0 49 [260, 333, 358, 371, 384, 397, 422, 490, 570, 678, 722, 735, 791, 804, 860, 873, 929, 973, 1041, 1109, 1177, 1245, 1344, 1436, 1504, 1572, 1640, 1708, 1733, 1789, 1893, 1997, 2065, 2121, 2134, 2190, 2258, 2302, 2358, 2371, 2448, 2473, 2536, 2599, 2655, 2711, 2767, 2845, 2886, 2899] 2924) from xs_tsw hΓ dL_law_45 (by decide) (by decide) (by decide)) (i := 18) rfl (by rw [c18]; decide) (by decide) ?_
        exact hB_1041 _ _ _ _ e
      rw [if_neg c18] at e
      by_cases c19 : (v29 &&& 63) = 19
      · rw [if_pos c19] at e
        refine xw_tsi (show xm_Imp g Γ 45 (xi_tsw 0 49 [260, 333, 358, 371, 384, 397, 422, 490, 570, 678, 722, 735, 791, 804, 860, 873, 929, 973, 1041, 1109, 1177, 1245, 1344, 1436, 1504, 1572, 1640, 1708, 1733, 1789, 1893, 1997, 2065, 2121, 2134, 2190, 2258, 2302, 2358, 2371, 2448, 2473, 2536, 2599, 2655, 2711, 2767, 2845, 2886, 2899] 2924) from xs_tsw hΓ dL_law_45 (by decide) (by decide) (by decide)) (i := 19) rfl (by rw [c19]; decide) (by decide) ?_
        exact hB_1109 _ _ _ _ e
      rw [if_neg c19] at e
      by_cases c20 : (v29 &&& 63) = 20
      · rw [if_pos c20] at e
        refine xw_tsi (show xm_Imp g Γ 45 (xi_tsw 0 49 [260, 333, 358, 371, 384, 397, 422, 490, 570, 678, 722, 735, 791, 804, 860, 873, 929, 973, 1041, 1109, 1177, 1245, 1344, 1436, 1504, 1572, 1640, 1708, 1733, 1789, 1893, 1997, 2065, 2121, 2134, 2190, 2258, 2302, 2358, 2371, 2448, 2473, 2536, 2599, 2655, 2711, 2767, 2845, 2886, 2899] 2924) from xs_tsw hΓ dL_law_45 (by decide) (by decide) (by decide)) (i := 20) rfl (by rw [c20]; decide) (by decide) ?_
        exact hB_1177 _ _ _ _ e
      rw [if_neg c20] at e
      by_cases c21 : (v29 &&& 63) = 21
      · rw [if_pos c21] at e
        refine xw_tsi (show xm_Imp g Γ 45 (xi_tsw 0 49 [260, 333, 358, 371, 384, 397, 422, 490, 570, 678, 722, 735, 791, 804, 860, 873, 929, 973, 1041, 1109, 1177, 1245, 1344, 1436, 1504, 1572, 1640, 1708, 1733, 1789, 1893, 1997, 2065, 2121, 2134, 2190, 2258, 2302, 2358, 2371, 2448, 2473, 2536, 2599, 2655, 2711, 2767, 2845, 2886, 2899] 2924) from xs_tsw hΓ dL_law_45 (by decide) (by decide) (by decide)) (i := 21) rfl (by rw [c21]; decide) (by decide) ?_
        exact hB_1245 _ _ _ _ e
      rw [if_neg c21] at e
      by_cases c22 : (v29 &&& 63) = 22
      · rw [if_pos c22] at e
        refine xw_tsi (show xm_Imp g Γ 45 (xi_tsw 0 49 [260, 333, 358, 371, 384, 397, 422, 490, 570, 678, 722, 735, 791, 804, 860, 873, 929, 973, 1041, 1109, 1177, 1245, 1344, 1436, 1504, 1572, 1640, 1708, 1733, 1789, 1893, 1997, 2065, 2121, 2134, 2190, 2258, 2302, 2358, 2371, 2448, 2473, 2536, 2599, 2655, 2711, 2767, 2845, 2886, 2899] 2924) from xs_tsw hΓ dL_law_45 (by decide) (by decide) (by decide)) (i := 22) rfl (by rw [c22]; decide) (by decide) ?_
        exact hB_1344 _ _ _ _ e
      rw [if_neg c22] at e
      by_cases c23 : (v29 &&& 63) = 23
      · rw [if_pos c23] at e
        refine xw_tsi (show xm_Imp g Γ 45 (xi_tsw 0 49 [260, 333, 358, 371, 384, 397, 422, 490, 570, 678, 722, 735, 791, 804, 860, 873, 929, 973, 1041, 1109, 1177, 1245, 1344, 1436, 1504, 1572, 1640, 1708, 1733, 1789, 1893, 1997, 2065, 2121, 2134, 2190, 2258, 2302, 2358, 2371, 2448, 2473, 2536, 2599, 2655, 2711, 2767, 2845, 2886, 2899] 2924) from xs_tsw hΓ dL_law_45 (by decide) (by decide) (by decide)) (i := 23) rfl (by rw [c23]; decide) (by decide) ?_
        exact hB_1436 _ _ _ _ e
      rw [if_neg c23] at e
      by_cases c24 : (v29 &&& 63) = 24
      · rw [if_pos c24] at e
        refine xw_tsi (show xm_Imp g Γ 45 (xi_tsw 0 49 [260, 333, 358, 371, 384, 397, 422, 490, 570, 678, 722, 735, 791, 804, 860, 873, 929, 973, 1041, 1109, 1177, 1245, 1344, 1436, 1504, 1572, 1640, 1708, 1733, 1789, 1893, 1997, 2065, 2121, 2134, 2190, 2258, 2302, 2358, 2371, 2448, 2473, 2536, 2599, 2655, 2711, 2767, 2845, 2886, 2899] 2924) from xs_tsw hΓ dL_law_45 (by decide) (by decide) (by decide)) (i := 24) rfl (by rw [c24]; decide) (by decide) ?_
        exact hB_1504 _ _ _ _ e
      rw [if_neg c24] at e
      by_cases c25 : (v29 &&& 63) = 25
      · rw [if_pos c25] at e
        refine xw_tsi (show xm_Imp g Γ 45 (xi_tsw 0 49 [260, 333, 358, 371, 384, 397, 422, 490, 570, 678, 722, 735, 791, 804, 860, 873, 929, 973, 1041, 1109, 1177, 1245, 1344, 1436, 1504, 1572, 1640, 1708, 1733, 1789, 1893, 1997, 2065, 2121, 2134, 2190, 2258, 2302, 2358, 2371, 2448, 2473, 2536, 2599, 2655, 2711, 2767, 2845, 2886, 2899] 2924) from xs_tsw hΓ dL_law_45 (by decide) (by decide) (by decide)) (i := 25) rfl (by rw [c25]; decide) (by decide) ?_
        exact hB_1572 _ _ _ _ e
      rw [if_neg c25] at e
      by_cases c26 : (v29 &&& 63) = 26
      · rw [if_pos c26] at e
        refine xw_tsi (show xm_Imp g Γ 45 (xi_tsw 0 49 [260, 333, 358, 371, 384, 397, 422, 490, 570, 678, 722, 735, 791, 804, 860, 873, 929, 973, 1041, 1109, 1177, 1245, 1344, 1436, 1504, 1572, 1640, 1708, 1733, 1789, 1893, 1997, 2065, 2121, 2134, 2190, 2258, 2302, 2358, 2371, 2448, 2473, 2536, 2599, 2655, 2711, 2767, 2845, 2886, 2899] 2924) from xs_tsw hΓ dL_law_45 (by decide) (by decide) (by decide)) (i := 26) rfl (by rw [c26]; decide) (by decide) ?_
        exact hB_1640 _ _ _ _ e
      rw [if_neg c26] at e
      by_cases c27 : (v29 &&& 63) = 27
      · rw [if_pos c27] at e
        refine xw_tsi (show xm_Imp g Γ 45 (xi_tsw 0 49 [260, 333, 358, 371, 384, 397, 422, 490, 570, 678, 722, 735, 791, 804, 860, 873, 929, 973, 1041, 1109, 1177, 1245, 1344, 1436, 1504, 1572, 1640, 1708, 1733, 1789, 1893, 1997, 2065, 2121, 2134, 2190, 2258, 2302, 2358, 2371, 2448, 2473, 2536, 2599, 2655, 2711, 2767, 2845, 2886, 2899] 2924) from xs_tsw hΓ dL_law_45 (by decide) (by decide) (by decide)) (i := 27) rfl (by rw [c27]; decide) (by decide) ?_
        exact hB_1708 _ _ _ _ e
      rw [if_neg c27] at e
      by_cases c28 : (v29 &&& 63) = 28
      · rw [if_pos c28] at e
        refine xw_tsi (show xm_Imp g Γ 45 (xi_tsw 0 49 [260, 333, 358, 371, 384, 397, 422, 490, 570, 678, 722, 735, 791, 804, 860, 873, 929, 973, 1041, 1109, 1177, 1245, 1344, 1436, 1504, 1572, 1640, 1708, 1733, 1789, 1893, 1997, 2065, 2121, 2134, 2190, 2258, 2302, 2358, 2371, 2448, 2473, 2536, 2599, 2655, 2711, 2767, 2845, 2886, 2899] 2924) from xs_tsw hΓ dL_law_45 (by decide) (by decide) (by decide)) (i := 28) rfl (by rw [c28]; decide) (by decide) ?_
        exact hB_1733 _ _ _ _ e
      rw [if_neg c28] at e
      by_cases c29 : (v29 &&& 63) = 29
      · rw [if_pos c29] at e
        refine xw_tsi (show xm_Imp g Γ 45 (xi_tsw 0 49 [260, 333, 358, 371, 384, 397, 422, 490, 570, 678, 722, 735, 791, 804, 860, 873, 929, 973, 1041, 1109, 1177, 1245, 1344, 1436, 1504, 1572, 1640, 1708, 1733, 1789, 1893, 1997, 2065, 2121, 2134, 2190, 2258, 2302, 2358, 2371, 2448, 2473, 2536, 2599, 2655, 2711, 2767, 2845, 2886, 2899] 2924) from xs_tsw hΓ dL_law_45 (by decide) (by decide) (by decide)) (i := 29) rfl (by rw [c29]; decide) (by decide) ?_
        exact hB_1789 _ _ _ _ e
      rw [if_neg c29] at e
      by_cases c30 : (v29 &&& 63) = 30
      · rw [if_pos c30] at e
        refine xw_tsi (show xm_Imp g Γ 45 (xi_tsw 0 49 [260, 333, 358, 371, 384, 397, 422, 490, 570, 678, 722, 735, 791, 804, 860, 873, 929, 973, 1041, 1109, 1177, 1245, 1344, 1436, 1504, 1572, 1640, 1708, 1733, 1789, 1893, 1997, 2065, 2121, 2134, 2190, 2258, 2302, 2358, 2371, 2448, 2473, 2536, 2599, 2655, 2711, 2767, 2845, 2886, 2899] 2924) from xs_tsw hΓ dL_law_45 (by decide) (by decide) (by decide)) (i := 30) rfl (by rw [c30]; decide) (by decide) ?_
        exact hB_1893 _ _ _ _ e
      rw [if_neg c30] at e
      by_cases c31 : (v29 &&& 63) = 31
      · rw [if_pos c31] at e
        refine xw_tsi (show xm_Imp g Γ 45 (xi_tsw 0 49 [260, 333, 358, 371, 384, 397, 422, 490, 570, 678, 722, 735, 791, 804, 860, 873, 929, 973, 1041, 1109, 1177, 1245, 1344, 1436, 1504, 1572, 1640, 1708, 1733, 1789, 1893, 1997, 2065, 2121, 2134, 2190, 2258, 2302, 2358, 2371, 2448, 2473, 2536, 2599, 2655, 2711, 2767, 2845, 2886, 2899] 2924) from xs_tsw hΓ dL_law_45 (by decide) (by decide) (by decide)) (i := 31) rfl (by rw [c31]; decide) (by decide) ?_
        exact hB_1997 _ _ _ _ e
      rw [if_neg c31] at e
      by_cases c32 : (v29 &&& 63) = 32
      · rw [if_pos c32] at e
        refine xw_tsi (show xm_Imp g Γ 45 (xi_tsw 0 49 [260, 333, 358, 371, 384, 397, 422, 490, 570, 678, 722, 735, 791, 804, 860, 873, 929, 973, 1041, 1109, 1177, 1245, 1344, 1436, 1504, 1572, 1640, 1708, 1733, 1789, 1893, 1997, 2065, 2121, 2134, 2190, 2258, 2302, 2358, 2371, 2448, 2473, 2536, 2599, 2655, 2711, 2767, 2845, 2886, 2899] 2924) from xs_tsw hΓ dL_law_45 (by decide) (by decide) (by decide)) (i := 32) rfl (by rw [c32]; decide) (by decide) ?_
        exact hB_2065 _ _ _ _ e
      rw [if_neg c32] at e
      by_cases c33 : (v29 &&& 63) = 33
      · rw [if_pos c33] at e
        refine xw_tsi (show xm_Imp g Γ 45 (xi_tsw 0 49 [260, 333, 358, 371, 384, 397, 422, 490, 570, 678, 722, 735, 791, 804, 860, 873, 929, 973, 1041, 1109, 1177, 1245, 1344, 1436, 1504, 1572, 1640, 1708, 1733, 1789, 1893, 1997, 2065, 2121, 2134, 2190, 2258, 2302, 2358, 2371, 2448, 2473, 2536, 2599, 2655, 2711, 2767, 2845, 2886, 2899] 2924) from xs_tsw hΓ dL_law_45 (by decide) (by decide) (by decide)) (i := 33) rfl (by rw [c33]; decide) (by decide) ?_
        exact hB_2121 _ _ _ _ e
      rw [if_neg c33] at e
      by_cases c34 : (v29 &&& 63) = 34
      · rw [if_pos c34] at e
        refine xw_tsi (show xm_Imp g Γ 45 (xi_tsw 0 49 [260, 333, 358, 371, 384, 397, 422, 490, 570, 678, 722, 735, 791, 804, 860, 873, 929, 973, 1041, 1109, 1177, 1245, 1344, 1436, 1504, 1572, 1640, 1708, 1733, 1789, 1893, 1997, 2065, 2121, 2134, 2190, 2258, 2302, 2358, 2371, 2448, 2473, 2536, 2599, 2655, 2711, 2767, 2845, 2886, 2899] 2924) from xs_tsw hΓ dL_law_45 (by decide) (by decide) (by decide)) (i := 34) rfl (by rw [c34]; decide) (by decide) ?_
        exact hB_2134 _ _ _ _ e
      rw [if_neg c34] at e
      by_cases c35 : (v29 &&& 63) = 35
      · rw [if_pos c35] at e
        refine xw_tsi (show xm_Imp g Γ 45 (xi_tsw 0 49 [260, 333, 358, 371, 384, 397, 422, 490, 570, 678, 722, 735, 791, 804, 860, 873, 929, 973, 1041, 1109, 1177, 1245, 1344, 1436, 1504, 1572, 1640, 1708, 1733, 1789, 1893, 1997, 2065, 2121, 2134, 2190, 2258, 2302, 2358, 2371, 2448, 2473, 2536, 2599, 2655, 2711, 2767, 2845, 2886, 2899] 2924) from xs_tsw hΓ dL_law_45 (by decide) (by decide) (by decide)) (i := 35) rfl (by rw [c35]; decide) (by decide) ?_
        exact hB_2190 _ _ _ _ e
      rw [if_neg c35] at e
      by_cases c36 : (v29 &&& 63) = 36
      · rw [if_pos c36] at e
        refine xw_tsi (show xm_Imp g Γ 45 (xi_tsw 0 49 [260, 333, 358, 371, 384, 397, 422, 490, 570, 678, 722, 735, 791, 804, 860, 873, 929, 973, 1041, 1109, 1177, 1245, 1344, 1436, 1504, 1572, 1640, 1708, 1733, 1789, 1893, 1997, 2065, 2121, 2134, 2190, 2258, 2302, 2358, 2371, 2448, 2473, 2536, 2599, 2655, 2711, 2767, 2845, 2886, 2899] 2924) from xs_tsw hΓ dL_law_45 (by decide) (by decide) (by decide)) (i := 36) rfl (by rw [c36]; decide) (by decide) ?_
        exact hB_2258 _ _ _ _ e
      rw [if_neg c36] at e
      by_cases c37 : (v29 &&& 63) = 37
      · rw [if_pos c37] at e
        refine xw_tsi (show xm_Imp g Γ 45 (xi_tsw 0 49 [260, 333, 358, 371, 384, 397, 422, 490, 570, 678, 722, 735, 791, 804, 860, 873, 929, 973, 1041, 1109, 1177, 1245, 1344, 1436, 1504, 1572, 1640, 1708, 1733, 1789, 1893, 1997, 2065, 2121, 2134, 2190, 2258, 2302, 2358, 2371, 2448, 2473, 2536, 2599, 2655, 2711, 2767, 2845, 2886, 2899] 2924) from xs_tsw hΓ dL_law_45 (by decide) (by decide) (by decide)) (i := 37) rfl (by rw [c37]; decide) (by decide) ?_
        exact hB_2302 _ _ _ _ e
      rw [if_neg c37] at e
      by_cases c38 : (v29 &&& 63) = 38
      · rw [if_pos c38] at e
        refine xw_tsi (show xm_Imp g Γ 45 (xi_tsw 0 49 [260, 333, 358, 371, 384, 397, 422, 490, 570, 678, 722, 735, 791, 804, 860, 873, 929, 973, 1041, 1109, 1177, 1245, 1344, 1436, 1504, 1572, 1640, 1708, 1733, 1789, 1893, 1997, 2065, 2121, 2134, 2190, 2258, 2302, 2358, 2371, 2448, 2473, 2536, 2599, 2655, 2711, 2767, 2845, 2886, 2899] 2924) from xs_tsw hΓ dL_law_45 (by decide) (by decide) (by decide)) (i := 38) rfl (by rw [c38]; decide) (by decide) ?_
        exact hB_2358 _ _ _ _ e
      rw [if_neg c38] at e
      by_cases c39 : (v29 &&& 63) = 39
      · rw [if_pos c39] at e
        refine xw_tsi (show xm_Imp g Γ 45 (xi_tsw 0 49 [260, 333, 358, 371, 384, 397, 422, 490, 570, 678, 722, 735, 791, 804, 860, 873, 929, 973, 1041, 1109, 1177, 1245, 1344, 1436, 1504, 1572, 1640, 1708, 1733, 1789, 1893, 1997, 2065, 2121, 2134, 2190, 2258, 2302, 2358, 2371, 2448, 2473, 2536, 2599, 2655, 2711, 2767, 2845, 2886, 2899] 2924) from xs_tsw hΓ dL_law_45 (by decide) (by decide) (by decide)) (i := 39) rfl (by rw [c39]; decide) (by decide) ?_
        exact hB_2371 _ _ _ _ e
      rw [if_neg c39] at e
      by_cases c40 : (v29 &&& 63) = 40
      · rw [if_pos c40] at e
        refine xw_tsi (show xm_Imp g Γ 45 (xi_tsw 0 49 [260, 333, 358, 371, 384, 397, 422, 490, 570, 678, 722, 735, 791, 804, 860, 873, 929, 973, 1041, 1109, 1177, 1245, 1344, 1436, 1504, 1572, 1640, 1708, 1733, 1789, 1893, 1997, 2065, 2121, 2134, 2190, 2258, 2302, 2358, 2371, 2448, 2473, 2536, 2599, 2655, 2711, 2767, 2845, 2886, 2899] 2924) from xs_tsw hΓ dL_law_45 (by decide) (by decide) (by decide)) (i := 40) rfl (by rw [c40]; decide) (by decide) ?_
        exact hB_2448 _ _ _ _ e
      rw [if_neg c40] at e
      by_cases c41 : (v29 &&& 63) = 41
      · rw [if_pos c41] at e
        refine xw_tsi (show xm_Imp g Γ 45 (xi_tsw 0 49 [260, 333, 358, 371, 384, 397, 422, 490, 570, 678, 722, 735, 791, 804, 860, 873, 929, 973, 1041, 1109, 1177, 1245, 1344, 1436, 1504, 1572, 1640, 1708, 1733, 1789, 1893, 1997, 2065, 2121, 2134, 2190, 2258, 2302, 2358, 2371, 2448, 2473, 2536, 2599, 2655, 2711, 2767, 2845, 2886, 2899] 2924) from xs_tsw hΓ dL_law_45 (by decide) (by decide) (by decide)) (i := 41) rfl (by rw [c41]; decide) (by decide) ?_
        exact hB_2473 _ _ _ _ e
      rw [if_neg c41] at e
      by_cases c42 : (v29 &&& 63) = 42
      · rw [if_pos c42] at e
        refine xw_tsi (show xm_Imp g Γ 45 (xi_tsw 0 49 [260, 333, 358, 371, 384, 397, 422, 490, 570, 678, 722, 735, 791, 804, 860, 873, 929, 973, 1041, 1109, 1177, 1245, 1344, 1436, 1504, 1572, 1640, 1708, 1733, 1789, 1893, 1997, 2065, 2121, 2134, 2190, 2258, 2302, 2358, 2371, 2448, 2473, 2536, 2599, 2655, 2711, 2767, 2845, 2886, 2899] 2924) from xs_tsw hΓ dL_law_45 (by decide) (by decide) (by decide)) (i := 42) rfl (by rw [c42]; decide) (by decide) ?_
        exact hB_2536 _ _ _ _ e
      rw [if_neg c42] at e
      by_cases c43 : (v29 &&& 63) = 43
      · rw [if_pos c43] at e
        refine xw_tsi (show xm_Imp g Γ 45 (xi_tsw 0 49 [260, 333, 358, 371, 384, 397, 422, 490, 570, 678, 722, 735, 791, 804, 860, 873, 929, 973, 1041, 1109, 1177, 1245, 1344, 1436, 1504, 1572, 1640, 1708, 1733, 1789, 1893, 1997, 2065, 2121, 2134, 2190, 2258, 2302, 2358, 2371, 2448, 2473, 2536, 2599, 2655, 2711, 2767, 2845, 2886, 2899] 2924) from xs_tsw hΓ dL_law_45 (by decide) (by decide) (by decide)) (i := 43) rfl (by rw [c43]; decide) (by decide) ?_
        exact hB_2599 _ _ _ _ e
      rw [if_neg c43] at e
      by_cases c44 : (v29 &&& 63) = 44
      · rw [if_pos c44] at e
        refine xw_tsi (show xm_Imp g Γ 45 (xi_tsw 0 49 [260, 333, 358, 371, 384, 397, 422, 490, 570, 678, 722, 735, 791, 804, 860, 873, 929, 973, 1041, 1109, 1177, 1245, 1344, 1436, 1504, 1572, 1640, 1708, 1733, 1789, 1893, 1997, 2065, 2121, 2134, 2190, 2258, 2302, 2358, 2371, 2448, 2473, 2536, 2599, 2655, 2711, 2767, 2845, 2886, 2899] 2924) from xs_tsw hΓ dL_law_45 (by decide) (by decide) (by decide)) (i := 44) rfl (by rw [c44]; decide) (by decide) ?_
        exact hB_2655 _ _ _ _ e
      rw [if_neg c44] at e
      by_cases c45 : (v29 &&& 63) = 45
      · rw [if_pos c45] at e
        refine xw_tsi (show xm_Imp g Γ 45 (xi_tsw 0 49 [260, 333, 358, 371, 384, 397, 422, 490, 570, 678, 722, 735, 791, 804, 860, 873, 929, 973, 1041, 1109, 1177, 1245, 1344, 1436, 1504, 1572, 1640, 1708, 1733, 1789, 1893, 1997, 2065, 2121, 2134, 2190, 2258, 2302, 2358, 2371, 2448, 2473, 2536, 2599, 2655, 2711, 2767, 2845, 2886, 2899] 2924) from xs_tsw hΓ dL_law_45 (by decide) (by decide) (by decide)) (i := 45) rfl (by rw [c45]; decide) (by decide) ?_
        exact hB_2711 _ _ _ _ e
      rw [if_neg c45] at e
      by_cases c46 : (v29 &&& 63) = 46
      · rw [if_pos c46] at e
        refine xw_tsi (show xm_Imp g Γ 45 (xi_tsw 0 49 [260, 333, 358, 371, 384, 397, 422, 490, 570, 678, 722, 735, 791, 804, 860, 873, 929, 973, 1041, 1109, 1177, 1245, 1344, 1436, 1504, 1572, 1640, 1708, 1733, 1789, 1893, 1997, 2065, 2121, 2134, 2190, 2258, 2302, 2358, 2371, 2448, 2473, 2536, 2599, 2655, 2711, 2767, 2845, 2886, 2899] 2924) from xs_tsw hΓ dL_law_45 (by decide) (by decide) (by decide)) (i := 46) rfl (by rw [c46]; decide) (by decide) ?_
        exact hB_2767 _ _ _ _ e
      rw [if_neg c46] at e
      by_cases c47 : (v29 &&& 63) = 47
      · rw [if_pos c47] at e
        refine xw_tsi (show xm_Imp g Γ 45 (xi_tsw 0 49 [260, 333, 358, 371, 384, 397, 422, 490, 570, 678, 722, 735, 791, 804, 860, 873, 929, 973, 1041, 1109, 1177, 1245, 1344, 1436, 1504, 1572, 1640, 1708, 1733, 1789, 1893, 1997, 2065, 2121, 2134, 2190, 2258, 2302, 2358, 2371, 2448, 2473, 2536, 2599, 2655, 2711, 2767, 2845, 2886, 2899] 2924) from xs_tsw hΓ dL_law_45 (by decide) (by decide) (by decide)) (i := 47) rfl (by rw [c47]; decide) (by decide) ?_
        exact hB_2845 _ _ _ _ e
      rw [if_neg c47] at e
      by_cases c48 : (v29 &&& 63) = 48
      · rw [if_pos c48] at e
        refine xw_tsi (show xm_Imp g Γ 45 (xi_tsw 0 49 [260, 333, 358, 371, 384, 397, 422, 490, 570, 678, 722, 735, 791, 804, 860, 873, 929, 973, 1041, 1109, 1177, 1245, 1344, 1436, 1504, 1572, 1640, 1708, 1733, 1789, 1893, 1997, 2065, 2121, 2134, 2190, 2258, 2302, 2358, 2371, 2448, 2473, 2536, 2599, 2655, 2711, 2767, 2845, 2886, 2899] 2924) from xs_tsw hΓ dL_law_45 (by decide) (by decide) (by decide)) (i := 48) rfl (by rw [c48]; decide) (by decide) ?_
        exact hB_2886 _ _ _ _ e
      rw [if_neg c48] at e
      by_cases c49 : (v29 &&& 63) = 49
      · rw [if_pos c49] at e
        refine xw_tsi (show xm_Imp g Γ 45 (xi_tsw 0 49 [260, 333, 358, 371, 384, 397, 422, 490, 570, 678, 722, 735, 791, 804, 860, 873, 929, 973, 1041, 1109, 1177, 1245, 1344, 1436, 1504, 1572, 1640, 1708, 1733, 1789, 1893, 1997, 2065, 2121, 2134, 2190, 2258, 2302, 2358, 2371, 2448, 2473, 2536, 2599, 2655, 2711, 2767, 2845, 2886, 2899] 2924) from xs_tsw hΓ dL_law_45 (by decide) (by decide) (by decide)) (i := 49) rfl (by rw [c49]; decide) (by decide) ?_
        exact hB_2899 _ _ _ _ e
      rw [if_neg c49] at e
      refine xw_tsd (show xm_Imp g Γ 45 (xi_tsw 0 49 [260, 333, 358, 371, 384, 397, 422, 490, 570, 678, 722, 735, 791, 804, 860, 873, 929, 973, 1041, 1109, 1177, 1245, 1344, 1436, 1504, 1572, 1640, 1708, 1733, 1789, 1893, 1997, 2065, 2121, 2134, 2190, 2258, 2302, 2358, 2371, 2448, 2473, 2536, 2599, 2655, 2711, 2767, 2845, 2886, 2899] 2924) from xs_tsw hΓ dL_law_45 (by decide) (by decide) (by decide)) (xm_tsd (v29 &&& 63) [(0 : Int32), (1 : Int32), (2 : Int32), (3 : Int32), (4 : Int32), (5 : Int32), (6 : Int32), (7 : Int32), (8 : Int32), (9 : Int32), (10 : Int32), (11 : Int32), (12 : Int32), (13 : Int32), (14 : Int32), (15 : Int32), (16 : Int32), (17 : Int32), (18 : Int32), (19 : Int32), (20 : Int32), (21 : Int32), (22 : Int32), (23 : Int32), (24 : Int32), (25 : Int32), (26 : Int32), (27 : Int32), (28 : Int32), (29 : Int32), (30 : Int32), (31 : Int32), (32 : Int32), (33 : Int32), (34 : Int32), (35 : Int32), (36 : Int32), (37 : Int32), (38 : Int32), (39 : Int32), (40 : Int32), (41 : Int32), (42 : Int32), (43 : Int32), (44 : Int32), (45 : Int32), (46 : Int32), (47 : Int32), (48 : Int32), (49 : Int32)] (by decide) (And.intro c0 (And.intro c1 (And.intro c2 (And.intro c3 (And.intro c4 (And.intro c5 (And.intro c6 (And.intro c7 (And.intro c8 (And.intro c9 (And.intro c10 (And.intro c11 (And.intro c12 (And.intro c13 (And.intro c14 (And.intro c15 (And.intro c16 (And.intro c17 (And.intro c18 (And.intro c19 (And.intro c20 (And.intro c21 (And.intro c22 (And.intro c23 (And.intro c24 (And.intro c25 (And.intro c26 (And.intro c27 (And.intro c28 (And.intro c29 (And.intro c30 (And.intro c31 (And.intro c32 (And.intro c33 (And.intro c34 (And.intro c35 (And.intro c36 (And.intro c37 (And.intro c38 (And.intro c39 (And.intro c40 (And.intro c41 (And.intro c42 (And.intro c43 (And.intro c44 (And.intro c45 (And.intro c46 (And.intro c47 (And.intro c48 (And.intro c49 (trivial)))))))))))))))))))))))))))))))))))))))))))))))))))) (by decide) ?_
      exact hB_2924 _ _ _ _ e
  unfold F_L_law at e
  refine xw_new (show xm_Imp g Γ 0 (xi_new 0 9 [.null, .null, .null, .null, .null, .int 0, .int 0, .int 0, .null] 3) from xs_new hG hΓ (ci := 0) rfl q173 q174 q120 rfl tyX1 tyX1_ok (xm_df 9 (by decide +kernel)) dL_law_0) e (fun a1 h2 b3 b4 e => ?_)
  refine xw_dup (show xm_Imp g Γ 3 (xi_dup 4) from xs_dup hΓ dL_law_3) rfl ?_
  obtain ⟨m5, m6, ⟨em1, em2⟩, e⟩ := e
  refine xw_tpu0 (o := (some a1)) (show xm_Imp g Γ 4 (xi_spe g M_X1_init 6 0 7) from xs_invI hG hΓ k_X1_init rfl q175 q176 rfl dL_law_4) rfl rfl em1 em2 (K_X1_init hG a1 _ _ _ e) (fun h7 e => ?_)
  refine xw_ast (ls' := [some (va_rf p0), some (.ref a1), none, none, none, none, none, none, none]) (show xm_Imp g Γ 7 (xi_ast 1 8) from xs_astore_n hΓ dL_law_7 (Nat.le_of_ble_eq_true rfl)) ((xm_s1_o (o := p0) rfl).trans rfl) ?_
  refine xw_new (show xm_Imp g Γ 8 (xi_new 4 42 [.int 0, .null, .null, .null, .null, .int 0, .int 0, .int 0, .int 0, .null, .null, .null, .null, .null, .null, .null, .null, .null, .int 0, .null, .int 0, .int 0, .int 0, .int 0, .int 0, .int 0, .int 0, .int 0, .int 0, .int 0, .int 0, .int 0, .int 0, .null, .int 0, .null, .null, .null, .int 0, .int 0, .null, .int 0] 11) from xs_new hG hΓ (ci := 4) rfl q2840 q2841 q132 rfl tyX5 tyX5_ok (xm_df 42 (by decide +kernel)) dL_law_8) e (fun a9 h10 b11 b12 e => ?_)
  refine xw_dup (show xm_Imp g Γ 11 (xi_dup 12) from xs_dup hΓ dL_law_11) rfl ?_
  obtain ⟨m13, m14, ⟨em1, em2⟩, e⟩ := e
  refine xw_tpu0 (o := (some a9)) (show xm_Imp g Γ 12 (xi_spe g M_X5_init 2 0 15) from xs_invI hG hΓ k_X5_init rfl q2842 q2843 rfl dL_law_12) rfl rfl em1 em2 (K_X5_init hG a9 _ _ _ e) (fun h15 e => ?_)
  refine xw_ast (ls' := [some (va_rf p0), some (.ref a1), some (.ref a9), none, none, none, none, none, none]) (show xm_Imp g Γ 15 (xi_ast 2 16) from xs_astore_n hΓ dL_law_15 (Nat.le_of_ble_eq_true rfl)) rfl ?_
  refine xw_psh (v := (.int (1))) (show xm_Imp g Γ 16 (xi_psh (.int (1)) 17) from xs_iconst hΓ dL_law_16 (by decide)) ?_
  obtain ⟨N21, e1, e⟩ := e
  refine xw_neal (show xm_Imp g Γ 17 (xi_nea .long xm_zl 19) from xs_newa (at0 := .long) hG hΓ rfl (by decide) (by decide) xm_zl xm_zl_long q3521 dL_law_17) e1 e (fun a17 h18 b19 b20 e => ?_)
  refine xw_ast (ls' := [some (va_rf p0), some (.ref a1), some (.ref a9), some (.ref a17), none, none, none, none, none]) (show xm_Imp g Γ 19 (xi_ast 3 20) from xs_astore_n hΓ dL_law_19 (Nat.le_of_ble_eq_true rfl)) rfl ?_
  refine xw_psh (v := (.int (1))) (show xm_Imp g Γ 20 (xi_psh (.int (1)) 21) from xs_iconst hΓ dL_law_20 (by decide)) ?_
  obtain ⟨N26, e1, e⟩ := e
  refine xw_nead (show xm_Imp g Γ 21 (xi_nea .double xm_zd 23) from xs_newa (at0 := .double) hG hΓ rfl (by decide) (by decide) xm_zd xm_zd_double q3522 dL_law_21) e1 e (fun a22 h23 b24 b25 e => ?_)
  refine xw_ast (ls' := [some (va_rf p0), some (.ref a1), some (.ref a9), some (.ref a17), some (.ref a22), none, none, none, none]) (show xm_Imp g Γ 23 (xi_ast 4 25) from xs_astore hΓ dL_law_23 (Nat.le_of_ble_eq_true rfl)) rfl ?_
  refine xw_psh (v := (.int (0))) (show xm_Imp g Γ 25 (xi_psh (.int (0)) 26) from xs_iconst hΓ dL_law_25 (by decide)) ?_
  refine xw_ist (ls' := [some (va_rf p0), some (.ref a1), some (.ref a9), some (.ref a17), some (.ref a22), some (.int 0), none, none, none]) (show xm_Imp g Γ 26 (xi_ist 5 28) from xs_istore hΓ dL_law_26 (Nat.le_of_ble_eq_true rfl)) rfl ?_
  exact hL_28 _ _ _ _ _ _ e
