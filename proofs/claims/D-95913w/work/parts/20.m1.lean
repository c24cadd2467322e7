def f_X5_init (j0 : Nat) (L : LH) : Rs Unit :=
  fw_na 100 (nI 4) L fun j1 L2 =>
  fw_pR 8 L2 j0 0 (some j1) fun L3 =>
  fw_na 100 (nI 124) L3 fun j4 L5 =>
  fw_pR 8 L5 j0 1 (some j4) fun L6 =>
  fw_na 100 (nI 2) L6 fun j7 L8 =>
  fw_pR 8 L8 j0 2 (some j7) fun L9 =>
  fw_na 100 (nI 17) L9 fun j10 L11 =>
  fw_pR 8 L11 j0 3 (some j10) fun L12 =>
  fw_na 100 (nI 17) L12 fun j13 L14 =>
  fw_pR 8 L14 j0 4 (some j13) fun L15 =>
  fw_na 100 (nI 17) L15 fun j16 L17 =>
  fw_pR 8 L17 j0 5 (some j16) fun L18 =>
  fw_na 100 (nI 2) L18 fun j19 L20 =>
  fw_pR 8 L20 j0 6 (some j19) fun L21 =>
  fw_na 100 (nI 48) L21 fun j22 L23 =>
  fw_pR 8 L23 j0 7 (some j22) fun L24 =>
  fw_na 100 (nI 8) L24 fun j25 L26 =>
  fw_pR 8 L26 j0 10 (some j25) fun L27 =>
  fw_na 100 (nI 8) L27 fun j28 L29 =>
  fw_pR 8 L29 j0 11 (some j28) fun L30 =>
  fw_na 100 (nI 8) L30 fun j31 L32 =>
  fw_pR 8 L32 j0 12 (some j31) fun L33 =>
  fw_na 100 (nI 48) L33 fun j34 L35 =>
  fw_pR 8 L35 j0 13 (some j34) fun L36 =>
  fw_na 100 (nI 16) L36 fun j37 L38 =>
  fw_pR 8 L38 j0 15 (some j37) fun L39 =>
  fw_na 100 (nI 2) L39 fun j40 L41 =>
  fw_pR 8 L41 j0 17 (some j40) fun L42 =>
  fw_na 100 (nI 16) L42 fun j43 L44 =>
  fw_pR 8 L44 j0 25 (some j43) fun L45 =>
  fw_na 100 (nI 16) L45 fun j46 L47 =>
  fw_pR 8 L47 j0 26 (some j46) fun L48 =>
  fw_na 100 (nI 16) L48 fun j49 L50 =>
  fw_pR 8 L50 j0 27 (some j49) fun L51 =>
  fw_na 100 (nI 2) L51 fun j52 L53 =>
  fw_pR 8 L53 j0 28 (some j52) fun L54 =>
  fw_na 100 (nI 24) L54 fun j55 L56 =>
  fw_pR 8 L56 j0 29 (some j55) fun L57 =>
  fw_na 100 (nI 24) L57 fun j58 L59 =>
  fw_pR 8 L59 j0 30 (some j58) fun L60 =>
  fw_na 100 (nI 48) L60 fun j61 L62 =>
  fw_pR 8 L62 j0 31 (some j61) fun L63 =>
  fw_na 100 (nI 384) L63 fun j64 L65 =>
  fw_pR 8 L65 j0 32 (some j64) fun L66 =>
  fw_na 100 (nI 384) L66 fun j67 L68 =>
  fw_pR 8 L68 j0 33 (some j67) fun L69 =>
  fw_na 100 (nI 2) L69 fun j70 L71 =>
  fw_pR 8 L71 j0 36 (some j70) fun L72 =>
  fw_na 100 (nI 8) L72 fun j73 L74 =>
  fw_pR 8 L74 j0 38 (some j73) fun L75 =>
  fw_na 100 (nI 8) L75 fun j76 L77 =>
  fw_pR 8 L77 j0 39 (some j76) fun L78 =>
  fw_na 100 (nI 240) L78 fun j79 L80 =>
  fw_pR 8 L80 j0 40 (some j79) fun L81 =>
  fw_na 103 (nI 4) L81 fun j82 L83 =>
  fw_pR 8 L83 j0 41 (some j82) fun L84 =>
  fw_na 100 (nI 4) L84 fun j85 L86 =>
  fw_pR 8 L86 j0 42 (some j85) fun L87 =>
  fw_na 100 (nI 4) L87 fun j88 L89 =>
  fw_pR 8 L89 j0 43 (some j88) fun L90 =>
  fw_na 100 (nI 240) L90 fun j91 L92 =>
  fw_pR 8 L92 j0 44 (some j91) fun L93 =>
  fw_na 100 (nI 60) L93 fun j94 L95 =>
  fw_pR 8 L95 j0 45 (some j94) fun L96 =>
  some ((), L96, 0, 0)
set_option maxHeartbeats 4000000 in
set_option maxRecDepth 100000 in
theorem w_X5_init_0 {K : Kx} {r9 : Unit} {L9 : LH} (hK : Ok K cX5_init 1 RX5 1 20) (hini : (kx_me K).name = "<init>") (hF : Fin K none none L9) {j0 : Nat} {L : LH} {mc ms : Nat} (h : f_X5_init j0 L = some (r9, L9, mc, ms)) : AW K L mc ms 0 [(0, aR (some j0))] [] := by
  unfold f_X5_init at h
  refine aw_aload_n hK 0 dX5_init_0 rfl rfl ?_
  refine aw_objInit hK q1192 q128 q129 dX5_init_1 (by decide) (Nat.le_of_ble_eq_true rfl) ?_
  refine aw_aload_n hK 0 dX5_init_4 rfl rfl ?_
  refine aw_iconst (v := (nI 4)) hK dX5_init_5 rfl ?_
  refine aw_newa hK 0 (by decide) rfl q207 dX5_init_6 h (fun j1 L2 _ _ h => ?_)
  refine aw_pRF hK hini fw_c7 0 (by decide) rfl q1193 (fun _ h9 => h9) rfl rfl (fun r => by cases r <;> exact ⟨rfl, rfl⟩) dX5_init_8 h (fun L3 h => ?_)
  refine aw_aload_n hK 0 dX5_init_11 rfl rfl ?_
  refine aw_bipush (v := (nI 124)) hK dX5_init_12 rfl ?_
  refine aw_newa hK 0 (by decide) rfl q207 dX5_init_14 h (fun j4 L5 _ _ h => ?_)
  refine aw_pRF hK hini fw_c7 1 (by decide) rfl q1194 (fun _ h9 => h9) rfl rfl (fun r => by cases r <;> exact ⟨rfl, rfl⟩) dX5_init_16 h (fun L6 h => ?_)
  refine aw_aload_n hK 0 dX5_init_19 rfl rfl ?_
  refine aw_iconst (v := (nI 2)) hK dX5_init_20 rfl ?_
  refine aw_newa hK 0 (by decide) rfl q207 dX5_init_21 h (fun j7 L8 _ _ h => ?_)
  refine aw_pRF hK hini fw_c7 2 (by decide) rfl q1195 (fun _ h9 => h9) rfl rfl (fun r => by cases r <;> exact ⟨rfl, rfl⟩) dX5_init_23 h (fun L9 h => ?_)
  refine aw_aload_n hK 0 dX5_init_26 rfl rfl ?_
  refine aw_bipush (v := (nI 17)) hK dX5_init_27 rfl ?_
  refine aw_newa hK 0 (by decide) rfl q207 dX5_init_29 h (fun j10 L11 _ _ h => ?_)
  refine aw_pRF hK hini fw_c7 3 (by decide) rfl q1196 (fun _ h9 => h9) rfl rfl (fun r => by cases r <;> exact ⟨rfl, rfl⟩) dX5_init_31 h (fun L12 h => ?_)
  refine aw_aload_n hK 0 dX5_init_34 rfl rfl ?_
  refine aw_bipush (v := (nI 17)) hK dX5_init_35 rfl ?_
  refine aw_newa hK 0 (by decide) rfl q207 dX5_init_37 h (fun j13 L14 _ _ h => ?_)
  refine aw_pRF hK hini fw_c7 4 (by decide) rfl q1197 (fun _ h9 => h9) rfl rfl (fun r => by cases r <;> exact ⟨rfl, rfl⟩) dX5_init_39 h (fun L15 h => ?_)
  refine aw_aload_n hK 0 dX5_init_42 rfl rfl ?_
  refine aw_bipush (v := (nI 17)) hK dX5_init_43 rfl ?_
  refine aw_newa hK 0 (by decide) rfl q207 dX5_init_45 h (fun j16 L17 _ _ h => ?_)
  refine aw_pRF hK hini fw_c7 5 (by decide) rfl q1198 (fun _ h9 => h9) rfl rfl (fun r => by cases r <;> exact ⟨rfl, rfl⟩) dX5_init_47 h (fun L18 h => ?_)
  refine aw_aload_n hK 0 dX5_init_50 rfl rfl ?_
  refine aw_iconst (v := (nI 2)) hK dX5_init_51 rfl ?_
  refine aw_newa hK 0 (by decide) rfl q207 dX5_init_52 h (fun j19 L20 _ _ h => ?_)
  refine aw_pRF hK hini fw_c7 6 (by decide) rfl q1199 (fun _ h9 => h9) rfl rfl (fun r => by cases r <;> exact ⟨rfl, rfl⟩) dX5_init_54 h (fun L21 h => ?_)
  refine aw_aload_n hK 0 dX5_init_57 rfl rfl ?_
  refine aw_bipush (v := (nI 48)) hK dX5_init_58 rfl ?_
  refine aw_newa hK 0 (by decide) rfl q207 dX5_init_60 h (fun j22 L23 _ _ h => ?_)
  refine aw_pRF hK hini fw_c7 7 (by decide) rfl q1200 (fun _ h9 => h9) rfl rfl (fun r => by cases r <;> exact ⟨rfl, rfl⟩) dX5_init_62 h (fun L24 h => ?_)
  refine aw_aload_n hK 0 dX5_init_65 rfl rfl ?_
  refine aw_bipush (v := (nI 8)) hK dX5_init_66 rfl ?_
  refine aw_newa hK 0 (by decide) rfl q207 dX5_init_68 h (fun j25 L26 _ _ h => ?_)
  refine aw_pRF hK hini fw_c7 10 (by decide) rfl q1203 (fun _ h9 => h9) rfl rfl (fun r => by cases r <;> exact ⟨rfl, rfl⟩) dX5_init_70 h (fun L27 h => ?_)
  refine aw_aload_n hK 0 dX5_init_73 rfl rfl ?_
  refine aw_bipush (v := (nI 8)) hK dX5_init_74 rfl ?_
  refine aw_newa hK 0 (by decide) rfl q207 dX5_init_76 h (fun j28 L29 _ _ h => ?_)
  refine aw_pRF hK hini fw_c7 11 (by decide) rfl q1204 (fun _ h9 => h9) rfl rfl (fun r => by cases r <;> exact ⟨rfl, rfl⟩) dX5_init_78 h (fun L30 h => ?_)
  refine aw_aload_n hK 0 dX5_init_81 rfl rfl ?_
  refine aw_bipush (v := (nI 8)) hK dX5_init_82 rfl ?_
  refine aw_newa hK 0 (by decide) rfl q207 dX5_init_84 h (fun j31 L32 _ _ h => ?_)
  refine aw_pRF hK hini fw_c7 12 (by decide) rfl q1205 (fun _ h9 => h9) rfl rfl (fun r => by cases r <;> exact ⟨rfl, rfl⟩) dX5_init_86 h (fun L33 h => ?_)
  refine aw_aload_n hK 0 dX5_init_89 rfl rfl ?_
  refine aw_bipush (v := (nI 48)) hK dX5_init_90 rfl ?_
  refine aw_newa hK 0 (by decide) rfl q207 dX5_init_92 h (fun j34 L35 _ _ h => ?_)
  refine aw_pRF hK hini fw_c7 13 (by decide) rfl q1206 (fun _ h9 => h9) rfl rfl (fun r => by cases r <;> exact ⟨rfl, rfl⟩) dX5_init_94 h (fun L36 h => ?_)
  refine aw_aload_n hK 0 dX5_init_97 rfl rfl ?_
  refine aw_bipush (v := (nI 16)) hK dX5_init_98 rfl ?_
  refine aw_newa hK 0 (by decide) rfl q207 dX5_init_100 h (fun j37 L38 _ _ h => ?_)
  refine aw_pRF hK hini fw_c7 15 (by decide) rfl q1208 (fun _ h9 => h9) rfl rfl (fun r => by cases r <;> exact ⟨rfl, rfl⟩) dX5_init_102 h (fun L39 h => ?_)
  refine aw_aload_n hK 0 dX5_init_105 rfl rfl ?_
  refine aw_iconst (v := (nI 2)) hK dX5_init_106 rfl ?_
  refine aw_newa hK 0 (by decide) rfl q207 dX5_init_107 h (fun j40 L41 _ _ h => ?_)
  refine aw_pRF hK hini fw_c7 17 (by decide) rfl q1210 (fun _ h9 => h9) rfl rfl (fun r => by cases r <;> exact ⟨rfl, rfl⟩) dX5_init_109 h (fun L42 h => ?_)
  refine aw_aload_n hK 0 dX5_init_112 rfl rfl ?_
  refine aw_bipush (v := (nI 16)) hK dX5_init_113 rfl ?_
  refine aw_newa hK 0 (by decide) rfl q207 dX5_init_115 h (fun j43 L44 _ _ h => ?_)
  refine aw_pRF hK hini fw_c7 25 (by decide) rfl q1218 (fun _ h9 => h9) rfl rfl (fun r => by cases r <;> exact ⟨rfl, rfl⟩) dX5_init_117 h (fun L45 h => ?_)
  refine aw_aload_n hK 0 dX5_init_120 rfl rfl ?_
  refine aw_bipush (v := (nI 16)) hK dX5_init_121 rfl ?_
  refine aw_newa hK 0 (by decide) rfl q207 dX5_init_123 h (fun j46 L47 _ _ h => ?_)
  refine aw_pRF hK hini fw_c7 26 (by decide) rfl q1219 (fun _ h9 => h9) rfl rfl (fun r => by cases r <;> exact ⟨rfl, rfl⟩) dX5_init_125 h (fun L48 h => ?_)
  refine aw_aload_n hK 0 dX5_init_128 rfl rfl ?_
  refine aw_bipush (v := (nI 16)) hK dX5_init_129 rfl ?_
  refine aw_newa hK 0 (by decide) rfl q207 dX5_init_131 h (fun j49 L50 _ _ h => ?_)
  refine aw_pRF hK hini fw_c7 27 (by decide) rfl q1220 (fun _ h9 => h9) rfl rfl (fun r => by cases r <;> exact ⟨rfl, rfl⟩) dX5_init_133 h (fun L51 h => ?_)
  refine aw_aload_n hK 0 dX5_init_136 rfl rfl ?_
  refine aw_iconst (v := (nI 2)) hK dX5_init_137 rfl ?_
  refine aw_newa hK 0 (by decide) rfl q207 dX5_init_138 h (fun j52 L53 _ _ h => ?_)
  refine aw_pRF hK hini fw_c7 28 (by decide) rfl q1221 (fun _ h9 => h9) rfl rfl (fun r => by cases r <;> exact ⟨rfl, rfl⟩) dX5_init_140 h (fun L54 h => ?_)
  refine aw_aload_n hK 0 dX5_init_143 rfl rfl ?_
  refine aw_bipush (v := (nI 24)) hK dX5_init_144 rfl ?_
  refine aw_newa hK 0 (by decide) rfl q207 dX5_init_146 h (fun j55 L56 _ _ h => ?_)
  refine aw_pRF hK hini fw_c7 29 (by decide) rfl q1222 (fun _ h9 => h9) rfl rfl (fun r => by cases r <;> exact ⟨rfl, rfl⟩) dX5_init_148 h (fun L57 h => ?_)
  refine aw_aload_n hK 0 dX5_init_151 rfl rfl ?_
  refine aw_bipush (v := (nI 24)) hK dX5_init_152 rfl ?_
  refine aw_newa hK 0 (by decide) rfl q207 dX5_init_154 h (fun j58 L59 _ _ h => ?_)
  refine aw_pRF hK hini fw_c7 30 (by decide) rfl q1223 (fun _ h9 => h9) rfl rfl (fun r => by cases r <;> exact ⟨rfl, rfl⟩) dX5_init_156 h (fun L60 h => ?_)
  refine aw_aload_n hK 0 dX5_init_159 rfl rfl ?_
  refine aw_bipush (v := (nI 48)) hK dX5_init_160 rfl ?_
  refine aw_newa hK 0 (by decide) rfl q207 dX5_init_162 h (fun j61 L62 _ _ h => ?_)
  refine aw_pRF hK hini fw_c7 31 (by decide) rfl q1224 (fun _ h9 => h9) rfl rfl (fun r => by cases r <;> exact ⟨rfl, rfl⟩) dX5_init_164 h (fun L63 h => ?_)
  refine aw_aload_n hK 0 dX5_init_167 rfl rfl ?_
  refine aw_sipush (v := (nI 384)) hK dX5_init_168 rfl ?_
  refine aw_newa hK 0 (by decide) rfl q207 dX5_init_171 h (fun j64 L65 _ _ h => ?_)
  refine aw_pRF hK hini fw_c7 32 (by decide) rfl q1225 (fun _ h9 => h9) rfl rfl (fun r => by cases r <;> exact ⟨rfl, rfl⟩) dX5_init_173 h (fun L66 h => ?_)
  refine aw_aload_n hK 0 dX5_init_176 rfl rfl ?_
  refine aw_sipush (v := (nI 384)) hK dX5_init_177 rfl ?_
  refine aw_newa hK 0 (by decide) rfl q207 dX5_init_180 h (fun j67 L68 _ _ h => ?_)
  refine aw_pRF hK hini fw_c7 33 (by decide) rfl q1226 (fun _ h9 => h9) rfl rfl (fun r => by cases r <;> exact ⟨rfl, rfl⟩) dX5_init_182 h (fun L69 h => ?_)
  refine aw_aload_n hK 0 dX5_init_185 rfl rfl ?_
  refine aw_iconst (v := (nI 2)) hK dX5_init_186 rfl ?_
  refine aw_newa hK 0 (by decide) rfl q207 dX5_init_187 h (fun j70 L71 _ _ h => ?_)
  refine aw_pRF hK hini fw_c7 36 (by decide) rfl q1229 (fun _ h9 => h9) rfl rfl (fun r => by cases r <;> exact ⟨rfl, rfl⟩) dX5_init_189 h (fun L72 h => ?_)
  refine aw_aload_n hK 0 dX5_init_192 rfl rfl ?_
  refine aw_bipush (v := (nI 8)) hK dX5_init_193 rfl ?_
  refine aw_newa hK 0 (by decide) rfl q207 dX5_init_195 h (fun j73 L74 _ _ h => ?_)
  refine aw_pRF hK hini fw_c7 38 (by decide) rfl q1231 (fun _ h9 => h9) rfl rfl (fun r => by cases r <;> exact ⟨rfl, rfl⟩) dX5_init_197 h (fun L75 h => ?_)
  refine aw_aload_n hK 0 dX5_init_200 rfl rfl ?_
  refine aw_bipush (v := (nI 8)) hK dX5_init_201 rfl ?_
  refine aw_newa hK 0 (by decide) rfl q207 dX5_init_203 h (fun j76 L77 _ _ h => ?_)
  refine aw_pRF hK hini fw_c7 39 (by decide) rfl q1232 (fun _ h9 => h9) rfl rfl (fun r => by cases r <;> exact ⟨rfl, rfl⟩) dX5_init_205 h (fun L78 h => ?_)
  refine aw_aload_n hK 0 dX5_init_208 rfl rfl ?_
  refine aw_sipush (v := (nI 240)) hK dX5_init_209 rfl ?_
  refine aw_newa hK 0 (by decide) rfl q207 dX5_init_212 h (fun j79 L80 _ _ h => ?_)
  refine aw_pRF hK hini fw_c7 40 (by decide) rfl q1233 (fun _ h9 => h9) rfl rfl (fun r => by cases r <;> exact ⟨rfl, rfl⟩) dX5_init_214 h (fun L81 h => ?_)
  refine aw_aload_n hK 0 dX5_init_217 rfl rfl ?_
  refine aw_iconst (v := (nI 4)) hK dX5_init_218 rfl ?_
  refine aw_newa hK 3 (by decide) rfl q1335 dX5_init_219 h (fun j82 L83 _ _ h => ?_)
  refine aw_pRF hK hini fw_c7 41 (by decide) rfl q1234 (fun _ h9 => h9) rfl rfl (fun r => by cases r <;> exact ⟨rfl, rfl⟩) dX5_init_221 h (fun L84 h => ?_)
  refine aw_aload_n hK 0 dX5_init_224 rfl rfl ?_
  refine aw_iconst (v := (nI 4)) hK dX5_init_225 rfl ?_
  refine aw_newa hK 0 (by decide) rfl q207 dX5_init_226 h (fun j85 L86 _ _ h => ?_)
  refine aw_pRF hK hini fw_c7 42 (by decide) rfl q1235 (fun _ h9 => h9) rfl rfl (fun r => by cases r <;> exact ⟨rfl, rfl⟩) dX5_init_228 h (fun L87 h => ?_)
  refine aw_aload_n hK 0 dX5_init_231 rfl rfl ?_
  refine aw_iconst (v := (nI 4)) hK dX5_init_232 rfl ?_
  refine aw_newa hK 0 (by decide) rfl q207 dX5_init_233 h (fun j88 L89 _ _ h => ?_)
  refine aw_pRF hK hini fw_c7 43 (by decide) rfl q1236 (fun _ h9 => h9) rfl rfl (fun r => by cases r <;> exact ⟨rfl, rfl⟩) dX5_init_235 h (fun L90 h => ?_)
  refine aw_aload_n hK 0 dX5_init_238 rfl rfl ?_
  refine aw_sipush (v := (nI 240)) hK dX5_init_239 rfl ?_
  refine aw_newa hK 0 (by decide) rfl q207 dX5_init_242 h (fun j91 L92 _ _ h => ?_)
  refine aw_pRF hK hini fw_c7 44 (by decide) rfl q1237 (fun _ h9 => h9) rfl rfl (fun r => by cases r <;> exact ⟨rfl, rfl⟩) dX5_init_244 h (fun L93 h => ?_)
  refine aw_aload_n hK 0 dX5_init_247 rfl rfl ?_
  refine aw_bipush (v := (nI 60)) hK dX5_init_248 rfl ?_
  refine aw_newa hK 0 (by decide) rfl q207 dX5_init_250 h (fun j94 L95 _ _ h => ?_)
  refine aw_pRF hK hini fw_c7 45 (by decide) rfl q1238 (fun _ h9 => h9) rfl rfl (fun r => by cases r <;> exact ⟨rfl, rfl⟩) dX5_init_252 h (fun L96 h => ?_)
  exact aw_vret hK dX5_init_255 h hF
theorem ct_X5_init {Z : fw_ZT} (hZ : fw_Zok Z) {j0 : Nat} {L : LH} {r9 : Unit} {L9 : LH} {mc ms : Nat} (h : f_X5_init j0 L = some (r9, L9, mc, ms)) : Ct Z yX5_init (ws_ yX5_init cX5_init 1 none) 1 20 [aR (some j0)] L none L9 mc ms :=
  ct_of (own := RX5) hZ (by decide +kernel) rfl (Nat.le_of_ble_eq_true rfl) (fun K _ hK hF hini => w_X5_init_0 hK hini hF h)
def f_X5_in (x0 : Int32) (x1 : Int32) (x2 : Int32) (L : LH) : Rs Int32 :=
  if x0 < x1 then (
    some ((nI 0), L, 0, 0)
  ) else (
    if x2 < x0 then (
      some ((nI 0), L, 0, 0)
    ) else (
      some ((nI 1), L, 0, 0)
    )
  )
set_option maxHeartbeats 4000000 in
set_option maxRecDepth 100000 in
theorem w_X5_in_0 {K : Kx} {r9 : Int32} {L9 : LH} (hK : Ok K cX5_in 3 RX5 0 0) (hF : Fin K (some (.boolean)) (some (aI r9)) L9) {x0 : Int32} {x1 : Int32} {x2 : Int32} {L : LH} {mc ms : Nat} (h : f_X5_in x0 x1 x2 L = some (r9, L9, mc, ms)) : AW K L mc ms 0 [(0, aI x0), (1, aI x1), (2, aI x2)] [] := by
  unfold f_X5_in at h
  refine aw_iload_n hK 0 dX5_in_0 rfl rfl ?_
  refine aw_iload_n hK 1 dX5_in_1 rfl rfl ?_
  refine aw_icmp_lt (tgt := 14) hK dX5_in_2 (by decide) h (fun h => ?_) (fun h => ?_)
  · refine aw_iconst (v := (nI 0)) hK dX5_in_14 rfl ?_
    exact aw_zret hK (by decide) dX5_in_15 h hF
  · refine aw_iload_n hK 0 dX5_in_5 rfl rfl ?_
    refine aw_iload_n hK 2 dX5_in_6 rfl rfl ?_
    refine aw_icmp_gt (tgt := 14) hK dX5_in_7 (by decide) h (fun h => ?_) (fun h => ?_)
    · refine aw_iconst (v := (nI 0)) hK dX5_in_14 rfl ?_
      exact aw_zret hK (by decide) dX5_in_15 h hF
    · refine aw_iconst (v := (nI 1)) hK dX5_in_10 rfl ?_
      refine aw_goto (tgt := 15) hK dX5_in_11 (by decide) ?_
      exact aw_zret hK (by decide) dX5_in_15 h hF
theorem ct_X5_in {Z : fw_ZT} (hZ : fw_Zok Z) {x0 : Int32} {x1 : Int32} {x2 : Int32} {L : LH} {r9 : Int32} {L9 : LH} {mc ms : Nat} (h : f_X5_in x0 x1 x2 L = some (r9, L9, mc, ms)) : Ct Z yX5_in (ws_ yX5_in cX5_in 3 (some (.boolean))) 0 0 [aI x0, aI x1, aI x2] L (some (aI r9)) L9 mc ms :=
  ct_of (own := RX5) hZ (by decide +kernel) rfl (Nat.le_of_ble_eq_true rfl) (fun K _ hK hF hini => w_X5_in_0 hK hF h)
def f_X5_byteAt (j0 : Nat) (x1 : Int32) (x2 : Int32) (L : LH) : Rs Int32 :=
  fw_gR 8 L j0 0 fun r1 =>
  fw_nn r1 fun j2 =>
  fw_rd 100 L j2 x1 fun v3 =>
  if v3 ≤ x2 then (
    some ((-nI 1), L, 0, 0)
  ) else (
    fw_gR 8 L j0 1 fun r4 =>
    fw_nn r4 fun j5 =>
    fw_rd 100 L j5 (((nI 31) * x1) + x2) fun v6 =>
    some (v6, L, 0, 0)
  )
set_option maxHeartbeats 4000000 in
set_option maxRecDepth 100000 in
theorem w_X5_byteAt_0 {K : Kx} {r9 : Int32} {L9 : LH} (hK : Ok K cX5_byteAt 3 RX5 0 0) (hF : Fin K (some (.int)) (some (aI r9)) L9) {j0 : Nat} {x1 : Int32} {x2 : Int32} {L : LH} {mc ms : Nat} (h : f_X5_byteAt j0 x1 x2 L = some (r9, L9, mc, ms)) : AW K L mc ms 0 [(0, aR (some j0)), (1, aI x1), (2, aI x2)] [] := by
  unfold f_X5_byteAt at h
  refine aw_iload_n hK 2 dX5_byteAt_0 rfl rfl ?_
  refine aw_aload_n hK 0 dX5_byteAt_1 rfl rfl ?_
  refine aw_gR hK fw_c7 0 (by decide) rfl q1193 (fun _ h9 => h9) dX5_byteAt_2 h (fun r1 h => ?_)
  refine aw_iload_n hK 1 dX5_byteAt_5 rfl rfl ?_
  obtain _ | j2 := r1
  · exact (fw_nn_no h).elim
  replace h := fw_nn_so h
  refine aw_iald hK dX5_byteAt_6 h (fun v3 h => ?_)
  refine aw_icmp_ge (tgt := 24) hK dX5_byteAt_7 (by decide) h (fun h => ?_) (fun h => ?_)
  · refine aw_iconst (v := (-nI 1)) hK dX5_byteAt_24 rfl ?_
    exact aw_iret hK dX5_byteAt_25 h hF
  · refine aw_aload_n hK 0 dX5_byteAt_10 rfl rfl ?_
    refine aw_gR hK fw_c7 1 (by decide) rfl q1194 (fun _ h9 => h9) dX5_byteAt_11 h (fun r4 h => ?_)
    refine aw_bipush (v := (nI 31)) hK dX5_byteAt_14 rfl ?_
    refine aw_iload_n hK 1 dX5_byteAt_16 rfl rfl ?_
    refine aw_imul hK dX5_byteAt_17 ?_
    refine aw_iload_n hK 2 dX5_byteAt_18 rfl rfl ?_
    refine aw_iadd hK dX5_byteAt_19 ?_
    obtain _ | j5 := r4
    · exact (fw_nn_no h).elim
    replace h := fw_nn_so h
    refine aw_iald hK dX5_byteAt_20 h (fun v6 h => ?_)
    refine aw_goto (tgt := 25) hK dX5_byteAt_21 (by decide) ?_
    exact aw_iret hK dX5_byteAt_25 h hF
theorem ct_X5_byteAt {Z : fw_ZT} (hZ : fw_Zok Z) {j0 : Nat} {x1 : Int32} {x2 : Int32} {L : LH} {r9 : Int32} {L9 : LH} {mc ms : Nat} (h : f_X5_byteAt j0 x1 x2 L = some (r9, L9, mc, ms)) : Ct Z yX5_byteAt (ws_ yX5_byteAt cX5_byteAt 3 (some (.int))) 0 0 [aR (some j0), aI x1, aI x2] L (some (aI r9)) L9 mc ms :=
  ct_of (own := RX5) hZ (by decide +kernel) rfl (Nat.le_of_ble_eq_true rfl) (fun K _ hK hF hini => w_X5_byteAt_0 hK hF h)
def f_X5_callBy (x0 : Int32) (L : LH) : Rs Int32 :=
  if x0 = (nI 114) then (
    some ((nI 0), L, 0, 0)
  ) else (
    if x0 = (nI 112) then (
      some ((nI 1), L, 0, 0)
    ) else (
      if x0 = (nI 104) then (
        some ((nI 2), L, 0, 0)
      ) else (
        some ((-nI 1), L, 0, 0)
      )
    )
  )
set_option maxHeartbeats 4000000 in
set_option maxRecDepth 100000 in
theorem w_X5_callBy_0 {K : Kx} {r9 : Int32} {L9 : LH} (hK : Ok K cX5_callBy 1 RX5 0 0) (hF : Fin K (some (.int)) (some (aI r9)) L9) {x0 : Int32} {L : LH} {mc ms : Nat} (h : f_X5_callBy x0 L = some (r9, L9, mc, ms)) : AW K L mc ms 0 [(0, aI x0)] [] := by
  unfold f_X5_callBy at h
  refine aw_iload_n hK 0 dX5_callBy_0 rfl rfl ?_
  refine aw_bipush (v := (nI 114)) hK dX5_callBy_1 rfl ?_
  refine aw_icmp_ne (tgt := 10) hK dX5_callBy_3 (by decide) h (fun h => ?_) (fun h => ?_)
  · refine aw_iload_n hK 0 dX5_callBy_10 rfl rfl ?_
    refine aw_bipush (v := (nI 112)) hK dX5_callBy_11 rfl ?_
    refine aw_icmp_ne (tgt := 20) hK dX5_callBy_13 (by decide) h (fun h => ?_) (fun h => ?_)
    · refine aw_iload_n hK 0 dX5_callBy_20 rfl rfl ?_
      refine aw_bipush (v := (nI 104)) hK dX5_callBy_21 rfl ?_
      refine aw_icmp_ne (tgt := 30) hK dX5_callBy_23 (by decide) h (fun h => ?_) (fun h => ?_)
      · refine aw_iconst (v := (-nI 1)) hK dX5_callBy_30 rfl ?_
        exact aw_iret hK dX5_callBy_31 h hF
      · refine aw_iconst (v := (nI 2)) hK dX5_callBy_26 rfl ?_
        refine aw_goto (tgt := 31) hK dX5_callBy_27 (by decide) ?_
        exact aw_iret hK dX5_callBy_31 h hF
    · refine aw_iconst (v := (nI 1)) hK dX5_callBy_16 rfl ?_
      refine aw_goto (tgt := 31) hK dX5_callBy_17 (by decide) ?_
      exact aw_iret hK dX5_callBy_31 h hF
  · refine aw_iconst (v := (nI 0)) hK dX5_callBy_6 rfl ?_
    refine aw_goto (tgt := 31) hK dX5_callBy_7 (by decide) ?_
    exact aw_iret hK dX5_callBy_31 h hF
theorem ct_X5_callBy {Z : fw_ZT} (hZ : fw_Zok Z) {x0 : Int32} {L : LH} {r9 : Int32} {L9 : LH} {mc ms : Nat} (h : f_X5_callBy x0 L = some (r9, L9, mc, ms)) : Ct Z yX5_callBy (ws_ yX5_callBy cX5_callBy 1 (some (.int))) 0 0 [aI x0] L (some (aI r9)) L9 mc ms :=
  ct_of (own := RX5) hZ (by decide +kernel) rfl (Nat.le_of_ble_eq_true rfl) (fun K _ hK hF hini => w_X5_callBy_0 hK hF h)
def f_X5_isThereOne (j0 : Nat) (x1 : Int32) (L : LH) : Rs Int32 :=
  fw_cl (f_X5_in x1 (nI 0) (nI 15) L) fun v2 L1 =>
  if v2 = 0 then (
    some ((nI 0), L1, 0, 0)
  ) else (
    fw_gR 8 L1 j0 2 fun r3 =>
    fw_nn r3 fun j4 =>
    fw_rd 100 L1 j4 (x1 / (nI 8)) fun v5 =>
    if v5 ≤ (x1 - x1 / (nI 8) * (nI 8)) then (
      some ((nI 0), L1, 0, 0)
    ) else (
      some ((nI 1), L1, 0, 0)
    )
  )
set_option maxHeartbeats 4000000 in
set_option maxRecDepth 100000 in
theorem w_X5_isThereOne_0 {K : Kx} {r9 : Int32} {L9 : LH} (hK : Ok K cX5_isThereOne 2 RX5 1 22) (hF : Fin K (some (.boolean)) (some (aI r9)) L9) {j0 : Nat} {x1 : Int32} {L : LH} {mc ms : Nat} (h : f_X5_isThereOne j0 x1 L = some (r9, L9, mc, ms)) : AW K L mc ms 0 [(0, aR (some j0)), (1, aI x1)] [] := by
  unfold f_X5_isThereOne at h
  refine aw_iload_n hK 1 dX5_isThereOne_0 rfl rfl ?_
  refine aw_iconst (v := (nI 0)) hK dX5_isThereOne_1 rfl ?_
  refine aw_bipush (v := (nI 15)) hK dX5_isThereOne_2 rfl ?_
  refine aw_callS_i (n := 3) hK (fun _ _ _ _ q => ct_X5_in hK.zk q) (lw_S q1343 q1344 q102 q1345) (by decide +kernel) (by decide) rfl rfl (Nat.le_of_ble_eq_true rfl) dX5_isThereOne_4 h (fun v2 L1 _ _ h => ?_)
  refine aw_if_eq (tgt := 30) hK dX5_isThereOne_7 (by decide) h (fun h => ?_) (fun h => ?_)
  · refine aw_iconst (v := (nI 0)) hK dX5_isThereOne_30 rfl ?_
    exact aw_zret hK (by decide) dX5_isThereOne_31 h hF
  · refine aw_iload_n hK 1 dX5_isThereOne_10 rfl rfl ?_
    refine aw_bipush (v := (nI 8)) hK dX5_isThereOne_11 rfl ?_
    refine aw_irem hK dX5_isThereOne_13 (by decide) ?_
    refine aw_aload_n hK 0 dX5_isThereOne_14 rfl rfl ?_
    refine aw_gR hK fw_c7 2 (by decide) rfl q1195 (fun _ h9 => h9) dX5_isThereOne_15 h (fun r3 h => ?_)
    refine aw_iload_n hK 1 dX5_isThereOne_18 rfl rfl ?_
    refine aw_bipush (v := (nI 8)) hK dX5_isThereOne_19 rfl ?_
    refine aw_idiv hK dX5_isThereOne_21 (by decide) ?_
    obtain _ | j4 := r3
    · exact (fw_nn_no h).elim
    replace h := fw_nn_so h
    refine aw_iald hK dX5_isThereOne_22 h (fun v5 h => ?_)
    refine aw_icmp_ge (tgt := 30) hK dX5_isThereOne_23 (by decide) h (fun h => ?_) (fun h => ?_)
    · refine aw_iconst (v := (nI 0)) hK dX5_isThereOne_30 rfl ?_
      exact aw_zret hK (by decide) dX5_isThereOne_31 h hF
    · refine aw_iconst (v := (nI 1)) hK dX5_isThereOne_26 rfl ?_
      refine aw_goto (tgt := 31) hK dX5_isThereOne_27 (by decide) ?_
      exact aw_zret hK (by decide) dX5_isThereOne_31 h hF
theorem ct_X5_isThereOne {Z : fw_ZT} (hZ : fw_Zok Z) {j0 : Nat} {x1 : Int32} {L : LH} {r9 : Int32} {L9 : LH} {mc ms : Nat} (h : f_X5_isThereOne j0 x1 L = some (r9, L9, mc, ms)) : Ct Z yX5_isThereOne (ws_ yX5_isThereOne cX5_isThereOne 2 (some (.boolean))) 1 22 [aR (some j0), aI x1] L (some (aI r9)) L9 mc ms :=
  ct_of (own := RX5) hZ (by decide +kernel) rfl (Nat.le_of_ble_eq_true rfl) (fun K _ hK hF hini => w_X5_isThereOne_0 hK hF h)
def f_X5_isThree (x0 : Int32) (L : LH) : Rs Int32 :=
  fw_cl (f_X5_in x0 (nI 0) (nI 2) L) fun v2 L1 =>
  fw_bo v2 <|
  some (v2, L1, 0, 0)
set_option maxHeartbeats 4000000 in
set_option maxRecDepth 100000 in
theorem w_X5_isThree_0 {K : Kx} {r9 : Int32} {L9 : LH} (hK : Ok K cX5_isThree 1 RX5 1 22) (hF : Fin K (some (.boolean)) (some (aI r9)) L9) {x0 : Int32} {L : LH} {mc ms : Nat} (h : f_X5_isThree x0 L = some (r9, L9, mc, ms)) : AW K L mc ms 0 [(0, aI x0)] [] := by
  unfold f_X5_isThree at h
  refine aw_iload_n hK 0 dX5_isThree_0 rfl rfl ?_
  refine aw_iconst (v := (nI 0)) hK dX5_isThree_1 rfl ?_
  refine aw_iconst (v := (nI 2)) hK dX5_isThree_2 rfl ?_
  refine aw_callS_i (n := 3) hK (fun _ _ _ _ q => ct_X5_in hK.zk q) (lw_S q1343 q1344 q102 q1345) (by decide +kernel) (by decide) rfl rfl (Nat.le_of_ble_eq_true rfl) dX5_isThree_3 h (fun v2 L1 _ _ h => ?_)
  obtain ⟨hbo, h⟩ := fw_bo_h h
  exact aw_zret hK hbo dX5_isThree_6 h hF
theorem ct_X5_isThree {Z : fw_ZT} (hZ : fw_Zok Z) {x0 : Int32} {L : LH} {r9 : Int32} {L9 : LH} {mc ms : Nat} (h : f_X5_isThree x0 L = some (r9, L9, mc, ms)) : Ct Z yX5_isThree (ws_ yX5_isThree cX5_isThree 1 (some (.boolean))) 1 22 [aI x0] L (some (aI r9)) L9 mc ms :=
  ct_of (own := RX5) hZ (by decide +kernel) rfl (Nat.le_of_ble_eq_true rfl) (fun K _ hK hF hini => w_X5_isThree_0 hK hF h)
def f_X5_pullerOf (j0 : Nat) (x1 : Int32) (x2 : Int32) (L : LH) : Rs Int32 :=
  if x2 = 0 then (
    fw_gR 8 L j0 3 fun r7 =>
    fw_nn r7 fun j8 =>
    fw_rd 100 L j8 x1 fun v9 =>
    some (v9, L, 0, 0)
  ) else (
    if x2 = (nI 1) then (
      fw_gR 8 L j0 4 fun r4 =>
      fw_nn r4 fun j5 =>
      fw_rd 100 L j5 x1 fun v6 =>
      some (v6, L, 0, 0)
    ) else (
      fw_gR 8 L j0 5 fun r1 =>
      fw_nn r1 fun j2 =>
      fw_rd 100 L j2 x1 fun v3 =>
      some (v3, L, 0, 0)
    )
  )
set_option maxHeartbeats 4000000 in
set_option maxRecDepth 100000 in
theorem w_X5_pullerOf_0 {K : Kx} {r9 : Int32} {L9 : LH} (hK : Ok K cX5_pullerOf 3 RX5 0 0) (hF : Fin K (some (.int)) (some (aI r9)) L9) {j0 : Nat} {x1 : Int32} {x2 : Int32} {L : LH} {mc ms : Nat} (h : f_X5_pullerOf j0 x1 x2 L = some (r9, L9, mc, ms)) : AW K L mc ms 0 [(0, aR (some j0)), (1, aI x1), (2, aI x2)] [] := by
  unfold f_X5_pullerOf at h
  refine aw_iload_n hK 2 dX5_pullerOf_0 rfl rfl ?_
  refine aw_if_ne (tgt := 13) hK dX5_pullerOf_1 (by decide) h (fun h => ?_) (fun h => ?_)
  · refine aw_iload_n hK 2 dX5_pullerOf_13 rfl rfl ?_
    refine aw_iconst (v := (nI 1)) hK dX5_pullerOf_14 rfl ?_
    refine aw_icmp_ne (tgt := 27) hK dX5_pullerOf_15 (by decide) h (fun h => ?_) (fun h => ?_)
    · refine aw_aload_n hK 0 dX5_pullerOf_27 rfl rfl ?_
      refine aw_gR hK fw_c7 5 (by decide) rfl q1198 (fun _ h9 => h9) dX5_pullerOf_28 h (fun r1 h => ?_)
      refine aw_iload_n hK 1 dX5_pullerOf_31 rfl rfl ?_
      obtain _ | j2 := r1
      · exact (fw_nn_no h).elim
      replace h := fw_nn_so h
      refine aw_iald hK dX5_pullerOf_32 h (fun v3 h => ?_)
      exact aw_iret hK dX5_pullerOf_33 h hF
    · refine aw_aload_n hK 0 dX5_pullerOf_18 rfl rfl ?_
      refine aw_gR hK fw_c7 4 (by decide) rfl q1197 (fun _ h9 => h9) dX5_pullerOf_19 h (fun r4 h => ?_)
      refine aw_iload_n hK 1 dX5_pullerOf_22 rfl rfl ?_
      obtain _ | j5 := r4
      · exact (fw_nn_no h).elim
      replace h := fw_nn_so h
      refine aw_iald hK dX5_pullerOf_23 h (fun v6 h => ?_)
      refine aw_goto (tgt := 33) hK dX5_pullerOf_24 (by decide) ?_
      exact aw_iret hK dX5_pullerOf_33 h hF
  · refine aw_aload_n hK 0 dX5_pullerOf_4 rfl rfl ?_
    refine aw_gR hK fw_c7 3 (by decide) rfl q1196 (fun _ h9 => h9) dX5_pullerOf_5 h (fun r7 h => ?_)
    refine aw_iload_n hK 1 dX5_pullerOf_8 rfl rfl ?_
    obtain _ | j8 := r7
    · exact (fw_nn_no h).elim
    replace h := fw_nn_so h
    refine aw_iald hK dX5_pullerOf_9 h (fun v9 h => ?_)
    refine aw_goto (tgt := 33) hK dX5_pullerOf_10 (by decide) ?_
    exact aw_iret hK dX5_pullerOf_33 h hF
theorem ct_X5_pullerOf {Z : fw_ZT} (hZ : fw_Zok Z) {j0 : Nat} {x1 : Int32} {x2 : Int32} {L : LH} {r9 : Int32} {L9 : LH} {mc ms : Nat} (h : f_X5_pullerOf j0 x1 x2 L = some (r9, L9, mc, ms)) : Ct Z yX5_pullerOf (ws_ yX5_pullerOf cX5_pullerOf 3 (some (.int))) 0 0 [aR (some j0), aI x1, aI x2] L (some (aI r9)) L9 mc ms :=
  ct_of (own := RX5) hZ (by decide +kernel) rfl (Nat.le_of_ble_eq_true rfl) (fun K _ hK hF hini => w_X5_pullerOf_0 hK hF h)
def f_X5_isTwo (x0 : Int32) (L : LH) : Rs Int32 :=
  fw_cl (f_X5_in x0 (nI 0) (nI 1) L) fun v2 L1 =>
  fw_bo v2 <|
  some (v2, L1, 0, 0)
set_option maxHeartbeats 4000000 in
set_option maxRecDepth 100000 in
theorem w_X5_isTwo_0 {K : Kx} {r9 : Int32} {L9 : LH} (hK : Ok K cX5_isTwo 1 RX5 1 22) (hF : Fin K (some (.boolean)) (some (aI r9)) L9) {x0 : Int32} {L : LH} {mc ms : Nat} (h : f_X5_isTwo x0 L = some (r9, L9, mc, ms)) : AW K L mc ms 0 [(0, aI x0)] [] := by
  unfold f_X5_isTwo at h
  refine aw_iload_n hK 0 dX5_isTwo_0 rfl rfl ?_
  refine aw_iconst (v := (nI 0)) hK dX5_isTwo_1 rfl ?_
  refine aw_iconst (v := (nI 1)) hK dX5_isTwo_2 rfl ?_
  refine aw_callS_i (n := 3) hK (fun _ _ _ _ q => ct_X5_in hK.zk q) (lw_S q1343 q1344 q102 q1345) (by decide +kernel) (by decide) rfl rfl (Nat.le_of_ble_eq_true rfl) dX5_isTwo_3 h (fun v2 L1 _ _ h => ?_)
  obtain ⟨hbo, h⟩ := fw_bo_h h
  exact aw_zret hK hbo dX5_isTwo_6 h hF
theorem ct_X5_isTwo {Z : fw_ZT} (hZ : fw_Zok Z) {x0 : Int32} {L : LH} {r9 : Int32} {L9 : LH} {mc ms : Nat} (h : f_X5_isTwo x0 L = some (r9, L9, mc, ms)) : Ct Z yX5_isTwo (ws_ yX5_isTwo cX5_isTwo 1 (some (.boolean))) 1 22 [aI x0] L (some (aI r9)) L9 mc ms :=
  ct_of (own := RX5) hZ (by decide +kernel) rfl (Nat.le_of_ble_eq_true rfl) (fun K _ hK hF hini => w_X5_isTwo_0 hK hF h)
def f_X5_isBeat (x0 : Int32) (L : LH) : Rs Int32 :=
  fw_cl (f_X5_in x0 (nI 0) (nI 23) L) fun v2 L1 =>
  fw_bo v2 <|
  some (v2, L1, 0, 0)
set_option maxHeartbeats 4000000 in
set_option maxRecDepth 100000 in
theorem w_X5_isBeat_0 {K : Kx} {r9 : Int32} {L9 : LH} (hK : Ok K cX5_isBeat 1 RX5 1 22) (hF : Fin K (some (.boolean)) (some (aI r9)) L9) {x0 : Int32} {L : LH} {mc ms : Nat} (h : f_X5_isBeat x0 L = some (r9, L9, mc, ms)) : AW K L mc ms 0 [(0, aI x0)] [] := by
  unfold f_X5_isBeat at h
  refine aw_iload_n hK 0 dX5_isBeat_0 rfl rfl ?_
  refine aw_iconst (v := (nI 0)) hK dX5_isBeat_1 rfl ?_
  refine aw_bipush (v := (nI 23)) hK dX5_isBeat_2 rfl ?_
  refine aw_callS_i (n := 3) hK (fun _ _ _ _ q => ct_X5_in hK.zk q) (lw_S q1343 q1344 q102 q1345) (by decide +kernel) (by decide) rfl rfl (Nat.le_of_ble_eq_true rfl) dX5_isBeat_4 h (fun v2 L1 _ _ h => ?_)
  obtain ⟨hbo, h⟩ := fw_bo_h h
  exact aw_zret hK hbo dX5_isBeat_7 h hF
theorem ct_X5_isBeat {Z : fw_ZT} (hZ : fw_Zok Z) {x0 : Int32} {L : LH} {r9 : Int32} {L9 : LH} {mc ms : Nat} (h : f_X5_isBeat x0 L = some (r9, L9, mc, ms)) : Ct Z yX5_isBeat (ws_ yX5_isBeat cX5_isBeat 1 (some (.boolean))) 1 22 [aI x0] L (some (aI r9)) L9 mc ms :=
  ct_of (own := RX5) hZ (by decide +kernel) rfl (Nat.le_of_ble_eq_true rfl) (fun K _ hK hF hini => w_X5_isBeat_0 hK hF h)
def f_X5_mud (j0 : Nat) (x1 : Int32) (L : LH) : Rs Int32 :=
  fw_cl (f_X5_in x1 (nI 0) (nI 9) L) fun v2 L1 =>
  if v2 = 0 then (
    some ((-nI 2), L1, 0, 0)
  ) else (
    fw_gI 8 L1 j0 8 fun v3 =>
    fw_pI 8 L1 j0 8 x1 fun L4 =>
    some (v3, L4, 0, 0)
  )
set_option maxHeartbeats 4000000 in
set_option maxRecDepth 100000 in
theorem w_X5_mud_0 {K : Kx} {r9 : Int32} {L9 : LH} (hK : Ok K cX5_mud 3 RX5 1 22) (hF : Fin K (some (.int)) (some (aI r9)) L9) {j0 : Nat} {x1 : Int32} {L : LH} {mc ms : Nat} (h : f_X5_mud j0 x1 L = some (r9, L9, mc, ms)) : AW K L mc ms 0 [(0, aR (some j0)), (1, aI x1)] [] := by
  unfold f_X5_mud at h
  refine aw_iload_n hK 1 dX5_mud_0 rfl rfl ?_
  refine aw_iconst (v := (nI 0)) hK dX5_mud_1 rfl ?_
  refine aw_bipush (v := (nI 9)) hK dX5_mud_2 rfl ?_
  refine aw_callS_i (n := 3) hK (fun _ _ _ _ q => ct_X5_in hK.zk q) (lw_S q1343 q1344 q102 q1345) (by decide +kernel) (by decide) rfl rfl (Nat.le_of_ble_eq_true rfl) dX5_mud_4 h (fun v2 L1 _ _ h => ?_)
  refine aw_if_ne (tgt := 13) hK dX5_mud_7 (by decide) h (fun h => ?_) (fun h => ?_)
  · refine aw_aload_n hK 0 dX5_mud_13 rfl rfl ?_
    refine aw_gI hK fw_c7 8 (by decide) rfl q1201 (fun _ h9 => h9) dX5_mud_14 h (fun v3 h => ?_)
    refine aw_istore_n (lv' := [(2, aI v3), (0, aR (some j0)), (1, aI x1)]) hK dX5_mud_17 rfl (by decide) rfl ?_
    refine aw_aload_n hK 1 dX5_mud_18 rfl rfl ?_
    refine aw_iload_n hK 2 dX5_mud_19 rfl rfl ?_
    refine aw_pI hK fw_c7 8 (by decide) rfl q1201 (fun _ h9 => h9) rfl rfl rfl dX5_mud_20 h (fun L4 h => ?_)
    refine aw_iload_n hK 0 dX5_mud_23 rfl rfl ?_
    exact aw_iret hK dX5_mud_24 h hF
  · refine aw_bipush (v := (-nI 2)) hK dX5_mud_10 rfl ?_
    exact aw_iret hK dX5_mud_12 h hF
theorem ct_X5_mud {Z : fw_ZT} (hZ : fw_Zok Z) {j0 : Nat} {x1 : Int32} {L : LH} {r9 : Int32} {L9 : LH} {mc ms : Nat} (h : f_X5_mud j0 x1 L = some (r9, L9, mc, ms)) : Ct Z yX5_mud (ws_ yX5_mud cX5_mud 3 (some (.int))) 1 22 [aR (some j0), aI x1] L (some (aI r9)) L9 mc ms :=
  ct_of (own := RX5) hZ (by decide +kernel) rfl (Nat.le_of_ble_eq_true rfl) (fun K _ hK hF hini => w_X5_mud_0 hK hF h)
def f_X5_event (j0 : Nat) (x1 : Int32) (x2 : Int32) (x3 : Int32) (L : LH) : Rs Int32 :=
  fw_cl (f_X5_isThree x1 L) fun v2 L1 =>
  if v2 = 0 then (
    some ((-nI 2), L1, 0, 0)
  ) else (
    fw_cl (f_X5_isBeat x2 L1) fun v4 L3 =>
    if v4 = 0 then (
      some ((-nI 2), L3, 0, 0)
    ) else (
      fw_cl (f_X5_in x3 (nI 0) (nI 15) L3) fun v6 L5 =>
      if v6 = 0 then (
        some ((-nI 2), L5, 0, 0)
      ) else (
        fw_gI 8 L5 j0 9 fun v7 =>
        if v7 = (nI 8) then (
          some ((-nI 4), L5, 0, 0)
        ) else (
          fw_gR 8 L5 j0 10 fun r8 =>
          fw_gI 8 L5 j0 9 fun v9 =>
          fw_nn r8 fun j10 =>
          fw_wr 100 L5 j10 v9 x1 fun L11 =>
          fw_gR 8 L11 j0 11 fun r12 =>
          fw_gI 8 L11 j0 9 fun v13 =>
          fw_nn r12 fun j14 =>
          fw_wr 100 L11 j14 v13 x2 fun L15 =>
          fw_gR 8 L15 j0 12 fun r16 =>
          fw_gI 8 L15 j0 9 fun v17 =>
          fw_nn r16 fun j18 =>
          fw_wr 100 L15 j18 v17 x3 fun L19 =>
          fw_gI 8 L19 j0 9 fun v20 =>
          fw_pI 8 L19 j0 9 (v20 + (nI 1)) fun L21 =>
          fw_gI 8 L21 j0 9 fun v22 =>
          some (v22, L21, 0, 0)
        )
      )
    )
  )
set_option maxHeartbeats 4000000 in
set_option maxRecDepth 100000 in
theorem w_X5_event_0 {K : Kx} {r9 : Int32} {L9 : LH} (hK : Ok K cX5_event 4 RX5 2 42) (hF : Fin K (some (.int)) (some (aI r9)) L9) {j0 : Nat} {x1 : Int32} {x2 : Int32} {x3 : Int32} {L : LH} {mc ms : Nat} (h : f_X5_event j0 x1 x2 x3 L = some (r9, L9, mc, ms)) : AW K L mc ms 0 [(0, aR (some j0)), (1, aI x1), (2, aI x2), (3, aI x3)] [] := by
  unfold f_X5_event at h
  refine aw_iload_n hK 1 dX5_event_0 rfl rfl ?_
  refine aw_callS_i (n := 1) hK (fun _ _ _ _ q => ct_X5_isThree hK.zk q) (lw_S q1397 q1398 q102 q1399) (by decide +kernel) (by decide) rfl rfl (Nat.le_of_ble_eq_true rfl) dX5_event_1 h (fun v2 L1 _ _ h => ?_)
  refine aw_if_eq (tgt := 24) hK dX5_event_4 (by decide) h (fun h => ?_) (fun h => ?_)
  · refine aw_bipush (v := (-nI 2)) hK dX5_event_24 rfl ?_
    exact aw_iret hK dX5_event_26 h hF
  · refine aw_iload_n hK 2 dX5_event_7 rfl rfl ?_
    refine aw_callS_i (n := 1) hK (fun _ _ _ _ q => ct_X5_isBeat hK.zk q) (lw_S q1411 q1412 q102 q1413) (by decide +kernel) (by decide) rfl rfl (Nat.le_of_ble_eq_true rfl) dX5_event_8 h (fun v4 L3 _ _ h => ?_)
    refine aw_if_eq (tgt := 24) hK dX5_event_11 (by decide) h (fun h => ?_) (fun h => ?_)
    · refine aw_bipush (v := (-nI 2)) hK dX5_event_24 rfl ?_
      exact aw_iret hK dX5_event_26 h hF
    · refine aw_iload_n hK 3 dX5_event_14 rfl rfl ?_
      refine aw_iconst (v := (nI 0)) hK dX5_event_15 rfl ?_
      refine aw_bipush (v := (nI 15)) hK dX5_event_16 rfl ?_
      refine aw_callS_i (n := 3) hK (fun _ _ _ _ q => ct_X5_in hK.zk q) (lw_S q1343 q1344 q102 q1345) (by decide +kernel) (by decide) rfl rfl (Nat.le_of_ble_eq_true rfl) dX5_event_18 h (fun v6 L5 _ _ h => ?_)
      refine aw_if_ne (tgt := 27) hK dX5_event_21 (by decide) h (fun h => ?_) (fun h => ?_)
      · refine aw_aload_n hK 0 dX5_event_27 rfl rfl ?_
        refine aw_gI hK fw_c7 9 (by decide) rfl q1202 (fun _ h9 => h9) dX5_event_28 h (fun v7 h => ?_)
        refine aw_bipush (v := (nI 8)) hK dX5_event_31 rfl ?_
        refine aw_icmp_ne (tgt := 39) hK dX5_event_33 (by decide) h (fun h => ?_) (fun h => ?_)
        · refine aw_aload_n hK 0 dX5_event_39 rfl rfl ?_
          refine aw_gR hK fw_c7 10 (by decide) rfl q1203 (fun _ h9 => h9) dX5_event_40 h (fun r8 h => ?_)
          refine aw_aload_n hK 0 dX5_event_43 rfl rfl ?_
          refine aw_gI hK fw_c7 9 (by decide) rfl q1202 (fun _ h9 => h9) dX5_event_44 h (fun v9 h => ?_)
          refine aw_iload_n hK 1 dX5_event_47 rfl rfl ?_
          obtain _ | j10 := r8
          · exact (fw_nn_no h).elim
          replace h := fw_nn_so h
          refine aw_iast hK dX5_event_48 h (fun L11 h => ?_)
          refine aw_aload_n hK 0 dX5_event_49 rfl rfl ?_
          refine aw_gR hK fw_c7 11 (by decide) rfl q1204 (fun _ h9 => h9) dX5_event_50 h (fun r12 h => ?_)
          refine aw_aload_n hK 0 dX5_event_53 rfl rfl ?_
          refine aw_gI hK fw_c7 9 (by decide) rfl q1202 (fun _ h9 => h9) dX5_event_54 h (fun v13 h => ?_)
          refine aw_iload_n hK 2 dX5_event_57 rfl rfl ?_
          obtain _ | j14 := r12
          · exact (fw_nn_no h).elim
          replace h := fw_nn_so h
          refine aw_iast hK dX5_event_58 h (fun L15 h => ?_)
          refine aw_aload_n hK 0 dX5_event_59 rfl rfl ?_
          refine aw_gR hK fw_c7 12 (by decide) rfl q1205 (fun _ h9 => h9) dX5_event_60 h (fun r16 h => ?_)
          refine aw_aload_n hK 0 dX5_event_63 rfl rfl ?_
          refine aw_gI hK fw_c7 9 (by decide) rfl q1202 (fun _ h9 => h9) dX5_event_64 h (fun v17 h => ?_)
          refine aw_iload_n hK 3 dX5_event_67 rfl rfl ?_
          obtain _ | j18 := r16
          · exact (fw_nn_no h).elim
          replace h := fw_nn_so h
          refine aw_iast hK dX5_event_68 h (fun L19 h => ?_)
          refine aw_aload_n hK 0 dX5_event_69 rfl rfl ?_
          refine aw_dup hK dX5_event_70 rfl ?_
          refine aw_gI hK fw_c7 9 (by decide) rfl q1202 (fun _ h9 => h9) dX5_event_71 h (fun v20 h => ?_)
          refine aw_iconst (v := (nI 1)) hK dX5_event_74 rfl ?_
          refine aw_iadd hK dX5_event_75 ?_
          refine aw_pI hK fw_c7 9 (by decide) rfl q1202 (fun _ h9 => h9) rfl rfl rfl dX5_event_76 h (fun L21 h => ?_)
          refine aw_aload_n hK 0 dX5_event_79 rfl rfl ?_
          refine aw_gI hK fw_c7 9 (by decide) rfl q1202 (fun _ h9 => h9) dX5_event_80 h (fun v22 h => ?_)
          exact aw_iret hK dX5_event_83 h hF
        · refine aw_bipush (v := (-nI 4)) hK dX5_event_36 rfl ?_
          exact aw_iret hK dX5_event_38 h hF
      · refine aw_bipush (v := (-nI 2)) hK dX5_event_24 rfl ?_
        exact aw_iret hK dX5_event_26 h hF
theorem ct_X5_event {Z : fw_ZT} (hZ : fw_Zok Z) {j0 : Nat} {x1 : Int32} {x2 : Int32} {x3 : Int32} {L : LH} {r9 : Int32} {L9 : LH} {mc ms : Nat} (h : f_X5_event j0 x1 x2 x3 L = some (r9, L9, mc, ms)) : Ct Z yX5_event (ws_ yX5_event cX5_event 4 (some (.int))) 2 42 [aR (some j0), aI x1, aI x2, aI x3] L (some (aI r9)) L9 mc ms :=
  ct_of (own := RX5) hZ (by decide +kernel) rfl (Nat.le_of_ble_eq_true rfl) (fun K _ hK hF hini => w_X5_event_0 hK hF h)
def f_X5_back (j0 : Nat) (L : LH) : Rs Int32 :=
  fw_gI 8 L j0 9 fun v1 =>
  if v1 = 0 then (
    some ((-nI 3), L, 0, 0)
  ) else (
    fw_gI 8 L j0 9 fun v2 =>
    fw_pI 8 L j0 9 (v2 - (nI 1)) fun L3 =>
    fw_gI 8 L3 j0 9 fun v4 =>
    some (v4, L3, 0, 0)
  )
set_option maxHeartbeats 4000000 in
set_option maxRecDepth 100000 in
theorem w_X5_back_0 {K : Kx} {r9 : Int32} {L9 : LH} (hK : Ok K cX5_back 1 RX5 0 0) (hF : Fin K (some (.int)) (some (aI r9)) L9) {j0 : Nat} {L : LH} {mc ms : Nat} (h : f_X5_back j0 L = some (r9, L9, mc, ms)) : AW K L mc ms 0 [(0, aR (some j0))] [] := by
  unfold f_X5_back at h
  refine aw_aload_n hK 0 dX5_back_0 rfl rfl ?_
  refine aw_gI hK fw_c7 9 (by decide) rfl q1202 (fun _ h9 => h9) dX5_back_1 h (fun v1 h => ?_)
  refine aw_if_ne (tgt := 10) hK dX5_back_4 (by decide) h (fun h => ?_) (fun h => ?_)
  · refine aw_aload_n hK 0 dX5_back_10 rfl rfl ?_
    refine aw_dup hK dX5_back_11 rfl ?_
    refine aw_gI hK fw_c7 9 (by decide) rfl q1202 (fun _ h9 => h9) dX5_back_12 h (fun v2 h => ?_)
    refine aw_iconst (v := (nI 1)) hK dX5_back_15 rfl ?_
    refine aw_isub hK dX5_back_16 ?_
    refine aw_pI hK fw_c7 9 (by decide) rfl q1202 (fun _ h9 => h9) rfl rfl rfl dX5_back_17 h (fun L3 h => ?_)
    refine aw_aload_n hK 0 dX5_back_20 rfl rfl ?_
    refine aw_gI hK fw_c7 9 (by decide) rfl q1202 (fun _ h9 => h9) dX5_back_21 h (fun v4 h => ?_)
    exact aw_iret hK dX5_back_24 h hF
  · refine aw_bipush (v := (-nI 3)) hK dX5_back_7 rfl ?_
    exact aw_iret hK dX5_back_9 h hF
theorem ct_X5_back {Z : fw_ZT} (hZ : fw_Zok Z) {j0 : Nat} {L : LH} {r9 : Int32} {L9 : LH} {mc ms : Nat} (h : f_X5_back j0 L = some (r9, L9, mc, ms)) : Ct Z yX5_back (ws_ yX5_back cX5_back 1 (some (.int))) 0 0 [aR (some j0)] L (some (aI r9)) L9 mc ms :=
  ct_of (own := RX5) hZ (by decide +kernel) rfl (Nat.le_of_ble_eq_true rfl) (fun K _ hK hF hini => w_X5_back_0 hK hF h)
def f_X5_isSheet (x0 : Int32) (L : LH) : Rs Int32 :=
  fw_cl (f_X5_in x0 (nI 0) (nI 3) L) fun v2 L1 =>
  fw_bo v2 <|
  some (v2, L1, 0, 0)
set_option maxHeartbeats 4000000 in
set_option maxRecDepth 100000 in
theorem w_X5_isSheet_0 {K : Kx} {r9 : Int32} {L9 : LH} (hK : Ok K cX5_isSheet 1 RX5 1 22) (hF : Fin K (some (.boolean)) (some (aI r9)) L9) {x0 : Int32} {L : LH} {mc ms : Nat} (h : f_X5_isSheet x0 L = some (r9, L9, mc, ms)) : AW K L mc ms 0 [(0, aI x0)] [] := by
  unfold f_X5_isSheet at h
  refine aw_iload_n hK 0 dX5_isSheet_0 rfl rfl ?_
  refine aw_iconst (v := (nI 0)) hK dX5_isSheet_1 rfl ?_
  refine aw_iconst (v := (nI 3)) hK dX5_isSheet_2 rfl ?_
  refine aw_callS_i (n := 3) hK (fun _ _ _ _ q => ct_X5_in hK.zk q) (lw_S q1343 q1344 q102 q1345) (by decide +kernel) (by decide) rfl rfl (Nat.le_of_ble_eq_true rfl) dX5_isSheet_3 h (fun v2 L1 _ _ h => ?_)
  obtain ⟨hbo, h⟩ := fw_bo_h h
  exact aw_zret hK hbo dX5_isSheet_6 h hF
theorem ct_X5_isSheet {Z : fw_ZT} (hZ : fw_Zok Z) {x0 : Int32} {L : LH} {r9 : Int32} {L9 : LH} {mc ms : Nat} (h : f_X5_isSheet x0 L = some (r9, L9, mc, ms)) : Ct Z yX5_isSheet (ws_ yX5_isSheet cX5_isSheet 1 (some (.boolean))) 1 22 [aI x0] L (some (aI r9)) L9 mc ms :=
  ct_of (own := RX5) hZ (by decide +kernel) rfl (Nat.le_of_ble_eq_true rfl) (fun K _ hK hF hini => w_X5_isSheet_0 hK hF h)
def f_X5_meets (j0 : Nat) (x1 : Int32) (L : LH) : Rs Int32 :=
  fw_pI 8 L j0 46 x1 fun L1 =>
  some (((-nI 10) - x1), L1, 0, 0)
set_option maxHeartbeats 4000000 in
set_option maxRecDepth 100000 in
theorem w_X5_meets_0 {K : Kx} {r9 : Int32} {L9 : LH} (hK : Ok K cX5_meets 2 RX5 0 0) (hF : Fin K (some (.int)) (some (aI r9)) L9) {j0 : Nat} {x1 : Int32} {L : LH} {mc ms : Nat} (h : f_X5_meets j0 x1 L = some (r9, L9, mc, ms)) : AW K L mc ms 0 [(0, aR (some j0)), (1, aI x1)] [] := by
  unfold f_X5_meets at h
  refine aw_aload_n hK 0 dX5_meets_0 rfl rfl ?_
  refine aw_iload_n hK 1 dX5_meets_1 rfl rfl ?_
  refine aw_pI hK fw_c7 46 (by decide) rfl q1239 (fun _ h9 => h9) rfl rfl rfl dX5_meets_2 h (fun L1 h => ?_)
  refine aw_bipush (v := (-nI 10)) hK dX5_meets_5 rfl ?_
  refine aw_iload_n hK 1 dX5_meets_7 rfl rfl ?_
  refine aw_isub hK dX5_meets_8 ?_
  exact aw_iret hK dX5_meets_9 h hF
theorem ct_X5_meets {Z : fw_ZT} (hZ : fw_Zok Z) {j0 : Nat} {x1 : Int32} {L : LH} {r9 : Int32} {L9 : LH} {mc ms : Nat} (h : f_X5_meets j0 x1 L = some (r9, L9, mc, ms)) : Ct Z yX5_meets (ws_ yX5_meets cX5_meets 2 (some (.int))) 0 0 [aR (some j0), aI x1] L (some (aI r9)) L9 mc ms :=
  ct_of (own := RX5) hZ (by decide +kernel) rfl (Nat.le_of_ble_eq_true rfl) (fun K _ hK hF hini => w_X5_meets_0 hK hF h)
def f_X5_isHere (j0 : Nat) (x1 : Int32) (L : LH) : Rs Int32 :=
  fw_is 8 L j0 <|
  fw_cl (f_X5_isThereOne j0 x1 L) fun v2 L1 =>
  if v2 = 0 then (
    some ((nI 0), L1, 0, 0)
  ) else (
    fw_gI 8 L1 j0 16 fun v3 =>
    if x1 = v3 then (
      some ((nI 0), L1, 0, 0)
    ) else (
      some ((nI 1), L1, 0, 0)
    )
  )
set_option maxHeartbeats 4000000 in
set_option maxRecDepth 100000 in
theorem w_X5_isHere_0 {K : Kx} {r9 : Int32} {L9 : LH} (hK : Ok K cX5_isHere 2 RX5 2 43) (hF : Fin K (some (.boolean)) (some (aI r9)) L9) {j0 : Nat} {x1 : Int32} {L : LH} {mc ms : Nat} (h : f_X5_isHere j0 x1 L = some (r9, L9, mc, ms)) : AW K L mc ms 0 [(0, aR (some j0)), (1, aI x1)] [] := by
  unfold f_X5_isHere at h
  refine aw_aload_n hK 0 dX5_isHere_0 rfl rfl ?_
  refine aw_iload_n hK 1 dX5_isHere_1 rfl rfl ?_
  obtain ⟨hj, h⟩ := fw_is_h h
  refine aw_callV_i (n := 1) hK fw_c7 hj (fun _ _ _ _ q => ct_X5_isThereOne hK.zk q) (lw_V q1393 q1395 qs51 q102 q1396) (by decide +kernel) (by decide) rfl rfl (Nat.le_of_ble_eq_true rfl) dX5_isHere_2 h (fun v2 L1 _ _ h => ?_)
  refine aw_if_eq (tgt := 20) hK dX5_isHere_5 (by decide) h (fun h => ?_) (fun h => ?_)
  · refine aw_iconst (v := (nI 0)) hK dX5_isHere_20 rfl ?_
    exact aw_zret hK (by decide) dX5_isHere_21 h hF
  · refine aw_iload_n hK 1 dX5_isHere_8 rfl rfl ?_
    refine aw_aload_n hK 0 dX5_isHere_9 rfl rfl ?_
    refine aw_gI hK fw_c7 16 (by decide) rfl q1209 (fun _ h9 => h9) dX5_isHere_10 h (fun v3 h => ?_)
    refine aw_icmp_eq (tgt := 20) hK dX5_isHere_13 (by decide) h (fun h => ?_) (fun h => ?_)
    · refine aw_iconst (v := (nI 0)) hK dX5_isHere_20 rfl ?_
      exact aw_zret hK (by decide) dX5_isHere_21 h hF
    · refine aw_iconst (v := (nI 1)) hK dX5_isHere_16 rfl ?_
      refine aw_goto (tgt := 21) hK dX5_isHere_17 (by decide) ?_
      exact aw_zret hK (by decide) dX5_isHere_21 h hF
theorem ct_X5_isHere {Z : fw_ZT} (hZ : fw_Zok Z) {j0 : Nat} {x1 : Int32} {L : LH} {r9 : Int32} {L9 : LH} {mc ms : Nat} (h : f_X5_isHere j0 x1 L = some (r9, L9, mc, ms)) : Ct Z yX5_isHere (ws_ yX5_isHere cX5_isHere 2 (some (.boolean))) 2 43 [aR (some j0), aI x1] L (some (aI r9)) L9 mc ms :=
  ct_of (own := RX5) hZ (by decide +kernel) rfl (Nat.le_of_ble_eq_true rfl) (fun K _ hK hF hini => w_X5_isHere_0 hK hF h)
def f_X5_isIn (x0 : Int32) (x1 : Int32) (L : LH) : Rs Int32 :=
  if ((x0 >>> (x1 &&& 31)) &&& (nI 1)) = (nI 1) then (
    some ((nI 1), L, 0, 0)
  ) else (
    some ((nI 0), L, 0, 0)
  )
set_option maxHeartbeats 4000000 in
set_option maxRecDepth 100000 in
theorem w_X5_isIn_0 {K : Kx} {r9 : Int32} {L9 : LH} (hK : Ok K cX5_isIn 2 RX5 0 0) (hF : Fin K (some (.boolean)) (some (aI r9)) L9) {x0 : Int32} {x1 : Int32} {L : LH} {mc ms : Nat} (h : f_X5_isIn x0 x1 L = some (r9, L9, mc, ms)) : AW K L mc ms 0 [(0, aI x0), (1, aI x1)] [] := by
  unfold f_X5_isIn at h
  refine aw_iload_n hK 0 dX5_isIn_0 rfl rfl ?_
  refine aw_iload_n hK 1 dX5_isIn_1 rfl rfl ?_
  refine aw_ishr hK dX5_isIn_2 ?_
  refine aw_iconst (v := (nI 1)) hK dX5_isIn_3 rfl ?_
  refine aw_iand hK dX5_isIn_4 ?_
  refine aw_iconst (v := (nI 1)) hK dX5_isIn_5 rfl ?_
  refine aw_icmp_ne (tgt := 13) hK dX5_isIn_6 (by decide) h (fun h => ?_) (fun h => ?_)
  · refine aw_iconst (v := (nI 0)) hK dX5_isIn_13 rfl ?_
    exact aw_zret hK (by decide) dX5_isIn_14 h hF
  · refine aw_iconst (v := (nI 1)) hK dX5_isIn_9 rfl ?_
    refine aw_goto (tgt := 14) hK dX5_isIn_10 (by decide) ?_
    exact aw_zret hK (by decide) dX5_isIn_14 h hF
theorem ct_X5_isIn {Z : fw_ZT} (hZ : fw_Zok Z) {x0 : Int32} {x1 : Int32} {L : LH} {r9 : Int32} {L9 : LH} {mc ms : Nat} (h : f_X5_isIn x0 x1 L = some (r9, L9, mc, ms)) : Ct Z yX5_isIn (ws_ yX5_isIn cX5_isIn 2 (some (.boolean))) 0 0 [aI x0, aI x1] L (some (aI r9)) L9 mc ms :=
  ct_of (own := RX5) hZ (by decide +kernel) rfl (Nat.le_of_ble_eq_true rfl) (fun K _ hK hF hini => w_X5_isIn_0 hK hF h)
def f_X5_strength_99 (j0 : Nat) (x1 : Int32) (x3 : Int32) (sx0 : Int32) (sx1 : Int32) (sr2 : Option Nat) (L : LH) : Rs Int32 :=
  fw_nn sr2 fun j1 =>
  fw_wr 100 L j1 sx1 sx0 fun L2 =>
  if x3 = 0 then (
    some ((nI 0), L2, 0, 0)
  ) else (
    fw_gR 8 L2 j0 4 fun r3 =>
    fw_nn r3 fun j4 =>
    fw_rd 100 L2 j4 x1 fun v5 =>
    some (v5, L2, 0, 0)
  )
def f_X5_strength_56 (j0 : Nat) (x1 : Int32) (x3 : Int32) (sx0 : Int32) (L : LH) : Rs Int32 :=
  fw_gR 8 L j0 25 fun r1 =>
  fw_gR 8 L j0 25 fun r2 =>
  fw_nn r2 fun j3 =>
  fw_rd 100 L j3 x1 fun v4 =>
  fw_gR 8 L j0 5 fun r5 =>
  fw_nn r5 fun j6 =>
  fw_rd 100 L j6 x1 fun v7 =>
  if (v4 + sx0) ≤ v7 then (
    fw_gR 8 L j0 25 fun r8 =>
    fw_nn r8 fun j9 =>
    fw_rd 100 L j9 x1 fun v10 =>
    f_X5_strength_99 j0 x1 x3 (v10 + sx0) x1 r1 L
  ) else (
    fw_gR 8 L j0 5 fun r11 =>
    fw_nn r11 fun j12 =>
    fw_rd 100 L j12 x1 fun v13 =>
    f_X5_strength_99 j0 x1 x3 v13 x1 r1 L
  )
def f_X5_strength_177 (j0 : Nat) (x1 : Int32) (x3 : Int32) (L : LH) : Rs Int32 :=
  fw_gR 8 L j0 25 fun r1 =>
  fw_nn r1 fun j2 =>
  fw_rd 100 L j2 x1 fun v3 =>
  if v3 = 0 then (
    some ((nI 0), L, 0, 0)
  ) else (
    fw_gR 8 L j0 25 fun r4 =>
    fw_nn r4 fun j5 =>
    fw_rd 100 L j5 x1 fun v6 =>
    fw_wr 100 L j5 x1 (v6 - (nI 1)) fun L7 =>
    fw_gR 8 L7 j0 4 fun r8 =>
    fw_nn r8 fun j9 =>
    fw_rd 100 L7 j9 x1 fun v10 =>
    if x3 = 0 then (
      some ((v10 + (nI 0)), L7, 0, 0)
    ) else (
      some ((v10 + (nI 2)), L7, 0, 0)
    )
  )
def f_X5_strength_129 (j0 : Nat) (x1 : Int32) (x2 : Int32) (x3 : Int32) (sx0 : Int32) (L : LH) : Rs Int32 :=
  if x2 = (nI 2) then (
    fw_gR 8 L j0 25 fun r1 =>
    fw_nn r1 fun j2 =>
    fw_rd 100 L j2 x1 fun v3 =>
    if v3 < sx0 then (
      f_X5_strength_177 j0 x1 x3 L
    ) else (
      fw_gR 8 L j0 25 fun r4 =>
      fw_nn r4 fun j5 =>
      fw_rd 100 L j5 x1 fun v6 =>
      fw_wr 100 L j5 x1 (v6 - sx0) fun L7 =>
      fw_gR 8 L7 j0 4 fun r8 =>
      fw_nn r8 fun j9 =>
      fw_rd 100 L7 j9 x1 fun v10 =>
      if x3 = 0 then (
        some ((((nI 2) * v10) + (nI 0)), L7, 0, 0)
      ) else (
        some ((((nI 2) * v10) + (nI 2)), L7, 0, 0)
      )
    )
  ) else (
    f_X5_strength_177 j0 x1 x3 L
  )
def f_X5_strength_28 (j0 : Nat) (x1 : Int32) (x2 : Int32) (sx0 : Int32) (L : LH) : Rs Int32 :=
  if x2 = 0 then (
    if sx0 = 0 then (
      fw_gR 8 L j0 3 fun r4 =>
      fw_nn r4 fun j5 =>
      fw_rd 100 L j5 x1 fun v6 =>
      if v6 = (nI 1) then (
        f_X5_strength_56 j0 x1 sx0 (nI 2) L
      ) else (
        f_X5_strength_56 j0 x1 sx0 (nI 1) L
      )
    ) else (
      f_X5_strength_56 j0 x1 sx0 (nI 0) L
    )
  ) else (
    fw_gR 8 L j0 3 fun r1 =>
    fw_nn r1 fun j2 =>
    fw_rd 100 L j2 x1 fun v3 =>
    if v3 = 0 then (
      f_X5_strength_129 j0 x1 x2 sx0 (nI 1) L
    ) else (
      f_X5_strength_129 j0 x1 x2 sx0 (nI 2) L
    )
  )
def f_X5_strength_27 (j0 : Nat) (x1 : Int32) (x2 : Int32) (L : LH) : Rs Int32 :=
  f_X5_strength_28 j0 x1 x2 (nI 0) L
def f_X5_strength (j0 : Nat) (x1 : Int32) (x2 : Int32) (L : LH) : Rs Int32 :=
  fw_gR 8 L j0 3 fun r1 =>
  fw_nn r1 fun j2 =>
  fw_rd 100 L j2 x1 fun v3 =>
  if v3 = (nI 2) then (
    fw_gR 8 L j0 17 fun r4 =>
    fw_nn r4 fun j5 =>
    fw_rd 100 L j5 (x1 / (nI 8)) fun v6 =>
    if v6 = x1 then (
      f_X5_strength_28 j0 x1 x2 (nI 1) L
    ) else (
      f_X5_strength_27 j0 x1 x2 L
    )
  ) else (
    f_X5_strength_27 j0 x1 x2 L
  )
set_option maxHeartbeats 4000000 in
set_option maxRecDepth 100000 in
theorem w_X5_strength_99 {K : Kx} {r9 : Int32} {L9 : LH} (hK : Ok K cX5_strength 5 RX5 0 0) (hF : Fin K (some (.int)) (some (aI r9)) L9) {j0 : Nat} {x1 : Int32} {x3 : Int32} {sx0 : Int32} {sx1 : Int32} {sr2 : Option Nat} {L : LH} {mc ms : Nat} (h : f_X5_strength_99 j0 x1 x3 sx0 sx1 sr2 L = some (r9, L9, mc, ms)) : AW K L mc ms 99 [(0, aR (some j0)), (1, aI x1), (3, aI x3)] [aI sx0, aI sx1, aR sr2] := by
  unfold f_X5_strength_99 at h
  obtain _ | j1 := sr2
  · exact (fw_nn_no h).elim
  replace h := fw_nn_so h
  refine aw_iast hK dX5_strength_99 h (fun L2 h => ?_)
  refine aw_iload_n hK 2 dX5_strength_100 rfl rfl ?_
  refine aw_if_eq (tgt := 113) hK dX5_strength_101 (by decide) h (fun h => ?_) (fun h => ?_)
  · refine aw_iconst (v := (nI 0)) hK dX5_strength_113 rfl ?_
    exact aw_iret hK dX5_strength_114 h hF
  · refine aw_aload_n hK 0 dX5_strength_104 rfl rfl ?_
    refine aw_gR hK fw_c7 4 (by decide) rfl q1197 (fun _ h9 => h9) dX5_strength_105 h (fun r3 h => ?_)
    refine aw_iload_n hK 1 dX5_strength_108 rfl rfl ?_
    obtain _ | j4 := r3
    · exact (fw_nn_no h).elim
    replace h := fw_nn_so h
    refine aw_iald hK dX5_strength_109 h (fun v5 h => ?_)
    refine aw_goto (tgt := 114) hK dX5_strength_110 (by decide) ?_
    exact aw_iret hK dX5_strength_114 h hF
set_option maxHeartbeats 4000000 in
set_option maxRecDepth 100000 in
theorem w_X5_strength_56 {K : Kx} {r9 : Int32} {L9 : LH} (hK : Ok K cX5_strength 5 RX5 0 0) (hF : Fin K (some (.int)) (some (aI r9)) L9) {j0 : Nat} {x1 : Int32} {x3 : Int32} {sx0 : Int32} {L : LH} {mc ms : Nat} (h : f_X5_strength_56 j0 x1 x3 sx0 L = some (r9, L9, mc, ms)) : AW K L mc ms 56 [(0, aR (some j0)), (1, aI x1), (3, aI x3)] [aI sx0] := by
  unfold f_X5_strength_56 at h
  refine aw_istore (lv' := [(4, aI sx0), (0, aR (some j0)), (1, aI x1), (3, aI x3)]) hK dX5_strength_56 (by decide) rfl ?_
  refine aw_aload_n hK 1 dX5_strength_58 rfl rfl ?_
  refine aw_gR hK fw_c7 25 (by decide) rfl q1218 (fun _ h9 => h9) dX5_strength_59 h (fun r1 h => ?_)
  refine aw_iload_n hK 2 dX5_strength_62 rfl rfl ?_
  refine aw_aload_n hK 1 dX5_strength_63 rfl rfl ?_
  refine aw_gR hK fw_c7 25 (by decide) rfl q1218 (fun _ h9 => h9) dX5_strength_64 h (fun r2 h => ?_)
  refine aw_iload_n hK 2 dX5_strength_67 rfl rfl ?_
  obtain _ | j3 := r2
  · exact (fw_nn_no h).elim
  replace h := fw_nn_so h
  refine aw_iald hK dX5_strength_68 h (fun v4 h => ?_)
  refine aw_iload hK 0 dX5_strength_69 rfl ?_
  refine aw_iadd hK dX5_strength_71 ?_
  refine aw_aload_n hK 1 dX5_strength_72 rfl rfl ?_
  refine aw_gR hK fw_c7 5 (by decide) rfl q1198 (fun _ h9 => h9) dX5_strength_73 h (fun r5 h => ?_)
  refine aw_iload_n hK 2 dX5_strength_76 rfl rfl ?_
  obtain _ | j6 := r5
  · exact (fw_nn_no h).elim
  replace h := fw_nn_so h
  refine aw_iald hK dX5_strength_77 h (fun v7 h => ?_)
  refine aw_icmp_le (tgt := 90) hK dX5_strength_78 (by decide) h (fun h => ?_) (fun h => ?_)
  · refine aw_aload_n hK 1 dX5_strength_90 rfl rfl ?_
    refine aw_gR hK fw_c7 25 (by decide) rfl q1218 (fun _ h9 => h9) dX5_strength_91 h (fun r8 h => ?_)
    refine aw_iload_n hK 2 dX5_strength_94 rfl rfl ?_
    obtain _ | j9 := r8
    · exact (fw_nn_no h).elim
    replace h := fw_nn_so h
    refine aw_iald hK dX5_strength_95 h (fun v10 h => ?_)
    refine aw_iload hK 0 dX5_strength_96 rfl ?_
    refine aw_iadd hK dX5_strength_98 ?_
    exact aw_sub [1, 2, 3] rfl (w_X5_strength_99 hK hF h)
  · refine aw_aload_n hK 1 dX5_strength_81 rfl rfl ?_
    refine aw_gR hK fw_c7 5 (by decide) rfl q1198 (fun _ h9 => h9) dX5_strength_82 h (fun r11 h => ?_)
    refine aw_iload_n hK 2 dX5_strength_85 rfl rfl ?_
    obtain _ | j12 := r11
    · exact (fw_nn_no h).elim
    replace h := fw_nn_so h
    refine aw_iald hK dX5_strength_86 h (fun v13 h => ?_)
    refine aw_goto (tgt := 99) hK dX5_strength_87 (by decide) ?_
    exact aw_sub [1, 2, 3] rfl (w_X5_strength_99 hK hF h)
set_option maxHeartbeats 4000000 in
set_option maxRecDepth 100000 in
theorem w_X5_strength_177 {K : Kx} {r9 : Int32} {L9 : LH} (hK : Ok K cX5_strength 5 RX5 0 0) (hF : Fin K (some (.int)) (some (aI r9)) L9) {j0 : Nat} {x1 : Int32} {x3 : Int32} {L : LH} {mc ms : Nat} (h : f_X5_strength_177 j0 x1 x3 L = some (r9, L9, mc, ms)) : AW K L mc ms 177 [(0, aR (some j0)), (1, aI x1), (3, aI x3)] [] := by
  unfold f_X5_strength_177 at h
  refine aw_aload_n hK 0 dX5_strength_177 rfl rfl ?_
  refine aw_gR hK fw_c7 25 (by decide) rfl q1218 (fun _ h9 => h9) dX5_strength_178 h (fun r1 h => ?_)
  refine aw_iload_n hK 1 dX5_strength_181 rfl rfl ?_
  obtain _ | j2 := r1
  · exact (fw_nn_no h).elim
  replace h := fw_nn_so h
  refine aw_iald hK dX5_strength_182 h (fun v3 h => ?_)
  refine aw_if_ne (tgt := 188) hK dX5_strength_183 (by decide) h (fun h => ?_) (fun h => ?_)
  · refine aw_aload_n hK 0 dX5_strength_188 rfl rfl ?_
    refine aw_gR hK fw_c7 25 (by decide) rfl q1218 (fun _ h9 => h9) dX5_strength_189 h (fun r4 h => ?_)
    refine aw_iload_n hK 1 dX5_strength_192 rfl rfl ?_
    refine aw_dup2 hK dX5_strength_193 rfl rfl ?_
    obtain _ | j5 := r4
    · exact (fw_nn_no h).elim
    replace h := fw_nn_so h
    refine aw_iald hK dX5_strength_194 h (fun v6 h => ?_)
    refine aw_iconst (v := (nI 1)) hK dX5_strength_195 rfl ?_
    refine aw_isub hK dX5_strength_196 ?_
    refine aw_iast hK dX5_strength_197 h (fun L7 h => ?_)
    refine aw_aload_n hK 0 dX5_strength_198 rfl rfl ?_
    refine aw_gR hK fw_c7 4 (by decide) rfl q1197 (fun _ h9 => h9) dX5_strength_199 h (fun r8 h => ?_)
    refine aw_iload_n hK 1 dX5_strength_202 rfl rfl ?_
    obtain _ | j9 := r8
    · exact (fw_nn_no h).elim
    replace h := fw_nn_so h
    refine aw_iald hK dX5_strength_203 h (fun v10 h => ?_)
    refine aw_iload_n hK 2 dX5_strength_204 rfl rfl ?_
    refine aw_if_eq (tgt := 212) hK dX5_strength_205 (by decide) h (fun h => ?_) (fun h => ?_)
    · refine aw_iconst (v := (nI 0)) hK dX5_strength_212 rfl ?_
      refine aw_iadd hK dX5_strength_213 ?_
      exact aw_iret hK dX5_strength_214 h hF
    · refine aw_iconst (v := (nI 2)) hK dX5_strength_208 rfl ?_
      refine aw_goto (tgt := 213) hK dX5_strength_209 (by decide) ?_
      refine aw_iadd hK dX5_strength_213 ?_
      exact aw_iret hK dX5_strength_214 h hF
  · refine aw_iconst (v := (nI 0)) hK dX5_strength_186 rfl ?_
    exact aw_iret hK dX5_strength_187 h hF
set_option maxHeartbeats 4000000 in
set_option maxRecDepth 100000 in
theorem w_X5_strength_129 {K : Kx} {r9 : Int32} {L9 : LH} (hK : Ok K cX5_strength 5 RX5 0 0) (hF : Fin K (some (.int)) (some (aI r9)) L9) {j0 : Nat} {x1 : Int32} {x2 : Int32} {x3 : Int32} {sx0 : Int32} {L : LH} {mc ms : Nat} (h : f_X5_strength_129 j0 x1 x2 x3 sx0 L = some (r9, L9, mc, ms)) : AW K L mc ms 129 [(0, aR (some j0)), (1, aI x1), (2, aI x2), (3, aI x3)] [aI sx0] := by
  unfold f_X5_strength_129 at h
  refine aw_istore (lv' := [(4, aI sx0), (0, aR (some j0)), (1, aI x1), (2, aI x2), (3, aI x3)]) hK dX5_strength_129 (by decide) rfl ?_
  refine aw_iload_n hK 3 dX5_strength_131 rfl rfl ?_
  refine aw_iconst (v := (nI 2)) hK dX5_strength_132 rfl ?_
  refine aw_icmp_ne (tgt := 177) hK dX5_strength_133 (by decide) h (fun h => ?_) (fun h => ?_)
  · exact aw_sub [1, 2, 4] rfl (w_X5_strength_177 hK hF h)
  · refine aw_aload_n hK 1 dX5_strength_136 rfl rfl ?_
    refine aw_gR hK fw_c7 25 (by decide) rfl q1218 (fun _ h9 => h9) dX5_strength_137 h (fun r1 h => ?_)
    refine aw_iload_n hK 2 dX5_strength_140 rfl rfl ?_
    obtain _ | j2 := r1
    · exact (fw_nn_no h).elim
    replace h := fw_nn_so h
    refine aw_iald hK dX5_strength_141 h (fun v3 h => ?_)
    refine aw_iload hK 0 dX5_strength_142 rfl ?_
    refine aw_icmp_lt (tgt := 177) hK dX5_strength_144 (by decide) h (fun h => ?_) (fun h => ?_)
    · exact aw_sub [1, 2, 4] rfl (w_X5_strength_177 hK hF h)
    · refine aw_aload_n hK 1 dX5_strength_147 rfl rfl ?_
      refine aw_gR hK fw_c7 25 (by decide) rfl q1218 (fun _ h9 => h9) dX5_strength_148 h (fun r4 h => ?_)
      refine aw_iload_n hK 2 dX5_strength_151 rfl rfl ?_
      refine aw_dup2 hK dX5_strength_152 rfl rfl ?_
      obtain _ | j5 := r4
      · exact (fw_nn_no h).elim
      replace h := fw_nn_so h
      refine aw_iald hK dX5_strength_153 h (fun v6 h => ?_)
      refine aw_iload hK 0 dX5_strength_154 rfl ?_
      refine aw_isub hK dX5_strength_156 ?_
      refine aw_iast hK dX5_strength_157 h (fun L7 h => ?_)
      refine aw_iconst (v := (nI 2)) hK dX5_strength_158 rfl ?_
      refine aw_aload_n hK 1 dX5_strength_159 rfl rfl ?_
      refine aw_gR hK fw_c7 4 (by decide) rfl q1197 (fun _ h9 => h9) dX5_strength_160 h (fun r8 h => ?_)
      refine aw_iload_n hK 2 dX5_strength_163 rfl rfl ?_
      obtain _ | j9 := r8
      · exact (fw_nn_no h).elim
      replace h := fw_nn_so h
      refine aw_iald hK dX5_strength_164 h (fun v10 h => ?_)
      refine aw_imul hK dX5_strength_165 ?_
      refine aw_iload_n hK 4 dX5_strength_166 rfl rfl ?_
      refine aw_if_eq (tgt := 174) hK dX5_strength_167 (by decide) h (fun h => ?_) (fun h => ?_)
      · refine aw_iconst (v := (nI 0)) hK dX5_strength_174 rfl ?_
        refine aw_iadd hK dX5_strength_175 ?_
        exact aw_iret hK dX5_strength_176 h hF
      · refine aw_iconst (v := (nI 2)) hK dX5_strength_170 rfl ?_
        refine aw_goto (tgt := 175) hK dX5_strength_171 (by decide) ?_
        refine aw_iadd hK dX5_strength_175 ?_
        exact aw_iret hK dX5_strength_176 h hF
set_option maxHeartbeats 4000000 in
set_option maxRecDepth 100000 in
theorem w_X5_strength_28 {K : Kx} {r9 : Int32} {L9 : LH} (hK : Ok K cX5_strength 5 RX5 0 0) (hF : Fin K (some (.int)) (some (aI r9)) L9) {j0 : Nat} {x1 : Int32} {x2 : Int32} {sx0 : Int32} {L : LH} {mc ms : Nat} (h : f_X5_strength_28 j0 x1 x2 sx0 L = some (r9, L9, mc, ms)) : AW K L mc ms 28 [(0, aR (some j0)), (1, aI x1), (2, aI x2)] [aI sx0] := by
  unfold f_X5_strength_28 at h
  refine aw_istore_n (lv' := [(3, aI sx0), (0, aR (some j0)), (1, aI x1), (2, aI x2)]) hK dX5_strength_28 rfl (by decide) rfl ?_
  refine aw_iload_n hK 3 dX5_strength_29 rfl rfl ?_
  refine aw_if_ne (tgt := 115) hK dX5_strength_30 (by decide) h (fun h => ?_) (fun h => ?_)
  · refine aw_aload_n hK 1 dX5_strength_115 rfl rfl ?_
    refine aw_gR hK fw_c7 3 (by decide) rfl q1196 (fun _ h9 => h9) dX5_strength_116 h (fun r1 h => ?_)
    refine aw_iload_n hK 2 dX5_strength_119 rfl rfl ?_
    obtain _ | j2 := r1
    · exact (fw_nn_no h).elim
    replace h := fw_nn_so h
    refine aw_iald hK dX5_strength_120 h (fun v3 h => ?_)
    refine aw_if_ne (tgt := 128) hK dX5_strength_121 (by decide) h (fun h => ?_) (fun h => ?_)
    · refine aw_iconst (v := (nI 2)) hK dX5_strength_128 rfl ?_
      exact aw_sub [1, 2, 3, 0] rfl (w_X5_strength_129 hK hF h)
    · refine aw_iconst (v := (nI 1)) hK dX5_strength_124 rfl ?_
      refine aw_goto (tgt := 129) hK dX5_strength_125 (by decide) ?_
      exact aw_sub [1, 2, 3, 0] rfl (w_X5_strength_129 hK hF h)
  · refine aw_iload_n hK 0 dX5_strength_33 rfl rfl ?_
    refine aw_if_eq (tgt := 41) hK dX5_strength_34 (by decide) h (fun h => ?_) (fun h => ?_)
    · refine aw_aload_n hK 1 dX5_strength_41 rfl rfl ?_
      refine aw_gR hK fw_c7 3 (by decide) rfl q1196 (fun _ h9 => h9) dX5_strength_42 h (fun r4 h => ?_)
      refine aw_iload_n hK 2 dX5_strength_45 rfl rfl ?_
      obtain _ | j5 := r4
      · exact (fw_nn_no h).elim
      replace h := fw_nn_so h
      refine aw_iald hK dX5_strength_46 h (fun v6 h => ?_)
      refine aw_iconst (v := (nI 1)) hK dX5_strength_47 rfl ?_
      refine aw_icmp_ne (tgt := 55) hK dX5_strength_48 (by decide) h (fun h => ?_) (fun h => ?_)
      · refine aw_iconst (v := (nI 1)) hK dX5_strength_55 rfl ?_
        exact aw_sub [1, 2, 0] rfl (w_X5_strength_56 hK hF h)
      · refine aw_iconst (v := (nI 2)) hK dX5_strength_51 rfl ?_
        refine aw_goto (tgt := 56) hK dX5_strength_52 (by decide) ?_
        exact aw_sub [1, 2, 0] rfl (w_X5_strength_56 hK hF h)
    · refine aw_iconst (v := (nI 0)) hK dX5_strength_37 rfl ?_
      refine aw_goto (tgt := 56) hK dX5_strength_38 (by decide) ?_
      exact aw_sub [1, 2, 0] rfl (w_X5_strength_56 hK hF h)
set_option maxHeartbeats 4000000 in
set_option maxRecDepth 100000 in
theorem w_X5_strength_27 {K : Kx} {r9 : Int32} {L9 : LH} (hK : Ok K cX5_strength 5 RX5 0 0) (hF : Fin K (some (.int)) (some (aI r9)) L9) {j0 : Nat} {x1 : Int32} {x2 : Int32} {L : LH} {mc ms : Nat} (h : f_X5_strength_27 j0 x1 x2 L = some (r9, L9, mc, ms)) : AW K L mc ms 27 [(0, aR (some j0)), (1, aI x1), (2, aI x2)] [] := by
  unfold f_X5_strength_27 at h
  refine aw_iconst (v := (nI 0)) hK dX5_strength_27 rfl ?_
  exact w_X5_strength_28 hK hF h
set_option maxHeartbeats 4000000 in
set_option maxRecDepth 100000 in
theorem w_X5_strength_0 {K : Kx} {r9 : Int32} {L9 : LH} (hK : Ok K cX5_strength 5 RX5 0 0) (hF : Fin K (some (.int)) (some (aI r9)) L9) {j0 : Nat} {x1 : Int32} {x2 : Int32} {L : LH} {mc ms : Nat} (h : f_X5_strength j0 x1 x2 L = some (r9, L9, mc, ms)) : AW K L mc ms 0 [(0, aR (some j0)), (1, aI x1), (2, aI x2)] [] := by
  unfold f_X5_strength at h
  refine aw_aload_n hK 0 dX5_strength_0 rfl rfl ?_
  refine aw_gR hK fw_c7 3 (by decide) rfl q1196 (fun _ h9 => h9) dX5_strength_1 h (fun r1 h => ?_)
  refine aw_iload_n hK 1 dX5_strength_4 rfl rfl ?_
  obtain _ | j2 := r1
  · exact (fw_nn_no h).elim
  replace h := fw_nn_so h
  refine aw_iald hK dX5_strength_5 h (fun v3 h => ?_)
  refine aw_iconst (v := (nI 2)) hK dX5_strength_6 rfl ?_
  refine aw_icmp_ne (tgt := 27) hK dX5_strength_7 (by decide) h (fun h => ?_) (fun h => ?_)
  · exact w_X5_strength_27 hK hF h
  · refine aw_aload_n hK 0 dX5_strength_10 rfl rfl ?_
    refine aw_gR hK fw_c7 17 (by decide) rfl q1210 (fun _ h9 => h9) dX5_strength_11 h (fun r4 h => ?_)
    refine aw_iload_n hK 1 dX5_strength_14 rfl rfl ?_
    refine aw_bipush (v := (nI 8)) hK dX5_strength_15 rfl ?_
    refine aw_idiv hK dX5_strength_17 (by decide) ?_
    obtain _ | j5 := r4
    · exact (fw_nn_no h).elim
    replace h := fw_nn_so h
    refine aw_iald hK dX5_strength_18 h (fun v6 h => ?_)
    refine aw_iload_n hK 1 dX5_strength_19 rfl rfl ?_
    refine aw_icmp_ne (tgt := 27) hK dX5_strength_20 (by decide) h (fun h => ?_) (fun h => ?_)
    · exact w_X5_strength_27 hK hF h
    · refine aw_iconst (v := (nI 1)) hK dX5_strength_23 rfl ?_
      refine aw_goto (tgt := 28) hK dX5_strength_24 (by decide) ?_
      exact w_X5_strength_28 hK hF h
theorem ct_X5_strength {Z : fw_ZT} (hZ : fw_Zok Z) {j0 : Nat} {x1 : Int32} {x2 : Int32} {L : LH} {r9 : Int32} {L9 : LH} {mc ms : Nat} (h : f_X5_strength j0 x1 x2 L = some (r9, L9, mc, ms)) : Ct Z yX5_strength (ws_ yX5_strength cX5_strength 5 (some (.int))) 0 0 [aR (some j0), aI x1, aI x2] L (some (aI r9)) L9 mc ms :=
  ct_of (own := RX5) hZ (by decide +kernel) rfl (Nat.le_of_ble_eq_true rfl) (fun K _ hK hF hini => w_X5_strength_0 hK hF h)
def f_X5_goes_102 (j0 : Nat) (x1 : Int32) (sx0 : Int32) (sr1 : Option Nat) (L : LH) : Rs Unit :=
  fw_nn sr1 fun j1 =>
  fw_pI 8 L j1 22 sx0 fun L2 =>
  fw_gI 8 L2 j0 22 fun v3 =>
  if v3 = (-nI 1) then (
    fw_pI 8 L2 j0 23 (-nI 1) fun L5 =>
    some ((), L5, 0, 0)
  ) else (
    fw_pI 8 L2 j0 23 x1 fun L4 =>
    some ((), L4, 0, 0)
  )
def f_X5_goes_71 (j0 : Nat) (x1 : Int32) (sx0 : Int32) (sx1 : Int32) (sr2 : Option Nat) (L : LH) : Rs Unit :=
  fw_nn sr2 fun j1 =>
  fw_pI 8 L j1 21 (sx1 + sx0) fun L2 =>
  fw_gI 8 L2 j0 21 fun v3 =>
  if v3 < (nI 22) then (
    fw_gI 8 L2 j0 21 fun v4 =>
    if (nI 2) < v4 then (
      f_X5_goes_102 j0 x1 (-nI 1) (some j0) L2
    ) else (
      f_X5_goes_102 j0 x1 (nI 1) (some j0) L2
    )
  ) else (
    f_X5_goes_102 j0 x1 (nI 0) (some j0) L2
  )
def f_X5_goes_52 (j0 : Nat) (x1 : Int32) (x2 : Int32) (x3 : Int32) (sx0 : Int32) (sx1 : Int32) (sr2 : Option Nat) (L : LH) : Rs Unit :=
  fw_nn sr2 fun j1 =>
  fw_pI 8 L j1 24 (sx1 + sx0) fun L2 =>
  fw_gI 8 L2 j0 21 fun v3 =>
  if 0 ≤ x2 then (
    f_X5_goes_71 j0 x1 x3 v3 (some j0) L2
  ) else (
    f_X5_goes_71 j0 x1 (-x3) v3 (some j0) L2
  )
def f_X5_goes_37 (j0 : Nat) (x1 : Int32) (x2 : Int32) (sx0 : Int32) (L : LH) : Rs Unit :=
  fw_gI 8 L j0 24 fun v1 =>
  if x2 = 0 then (
    f_X5_goes_52 j0 x1 x2 sx0 (nI 1) v1 (some j0) L
  ) else (
    f_X5_goes_52 j0 x1 x2 sx0 (nI 0) v1 (some j0) L
  )
def f_X5_goes_24 (j0 : Nat) (x1 : Int32) (x2 : Int32) (sx0 : Int32) (L : LH) : Rs Unit :=
  if (sx0 / (nI 3)) ≤ (nI 3) then (
    f_X5_goes_37 j0 x1 x2 (sx0 / (nI 3)) L
  ) else (
    f_X5_goes_37 j0 x1 x2 (nI 3) L
  )
def f_X5_goes (j0 : Nat) (x1 : Int32) (L : LH) : Rs Unit :=
  fw_gR 8 L j0 28 fun r1 =>
  fw_nn r1 fun j2 =>
  fw_rd 100 L j2 (nI 0) fun v3 =>
  fw_gR 8 L j0 28 fun r4 =>
  fw_nn r4 fun j5 =>
  fw_rd 100 L j5 (nI 1) fun v6 =>
  if 0 ≤ (v3 - v6) then (
    f_X5_goes_24 j0 x1 (v3 - v6) (v3 - v6) L
  ) else (
    f_X5_goes_24 j0 x1 (v3 - v6) (-(v3 - v6)) L
  )
set_option maxHeartbeats 4000000 in
set_option maxRecDepth 100000 in
theorem w_X5_goes_102 {K : Kx} {r9 : Unit} {L9 : LH} (hK : Ok K cX5_goes 4 RX5 0 0) (hF : Fin K none none L9) {j0 : Nat} {x1 : Int32} {sx0 : Int32} {sr1 : Option Nat} {L : LH} {mc ms : Nat} (h : f_X5_goes_102 j0 x1 sx0 sr1 L = some (r9, L9, mc, ms)) : AW K L mc ms 102 [(0, aR (some j0)), (1, aI x1)] [aI sx0, aR sr1] := by
  unfold f_X5_goes_102 at h
  obtain _ | j1 := sr1
  · exact (fw_nn_no h).elim
  replace h := fw_nn_so h
  refine aw_pI hK fw_c7 22 (by decide) rfl q1215 (fun _ h9 => h9) rfl rfl rfl dX5_goes_102 h (fun L2 h => ?_)
  refine aw_aload_n hK 0 dX5_goes_105 rfl rfl ?_
  refine aw_aload_n hK 0 dX5_goes_106 rfl rfl ?_
  refine aw_gI hK fw_c7 22 (by decide) rfl q1215 (fun _ h9 => h9) dX5_goes_107 h (fun v3 h => ?_)
  refine aw_iconst (v := (-nI 1)) hK dX5_goes_110 rfl ?_
  refine aw_icmp_ne (tgt := 118) hK dX5_goes_111 (by decide) h (fun h => ?_) (fun h => ?_)
  · refine aw_iload_n hK 1 dX5_goes_118 rfl rfl ?_
    refine aw_pI hK fw_c7 23 (by decide) rfl q1216 (fun _ h9 => h9) rfl rfl rfl dX5_goes_119 h (fun L4 h => ?_)
    exact aw_vret hK dX5_goes_122 h hF
  · refine aw_iconst (v := (-nI 1)) hK dX5_goes_114 rfl ?_
    refine aw_goto (tgt := 119) hK dX5_goes_115 (by decide) ?_
    refine aw_pI hK fw_c7 23 (by decide) rfl q1216 (fun _ h9 => h9) rfl rfl rfl dX5_goes_119 h (fun L5 h => ?_)
    exact aw_vret hK dX5_goes_122 h hF
set_option maxHeartbeats 4000000 in
set_option maxRecDepth 100000 in
theorem w_X5_goes_71 {K : Kx} {r9 : Unit} {L9 : LH} (hK : Ok K cX5_goes 4 RX5 0 0) (hF : Fin K none none L9) {j0 : Nat} {x1 : Int32} {sx0 : Int32} {sx1 : Int32} {sr2 : Option Nat} {L : LH} {mc ms : Nat} (h : f_X5_goes_71 j0 x1 sx0 sx1 sr2 L = some (r9, L9, mc, ms)) : AW K L mc ms 71 [(0, aR (some j0)), (1, aI x1)] [aI sx0, aI sx1, aR sr2] := by
  unfold f_X5_goes_71 at h
  refine aw_iadd hK dX5_goes_71 ?_
  obtain _ | j1 := sr2
  · exact (fw_nn_no h).elim
  replace h := fw_nn_so h
  refine aw_pI hK fw_c7 21 (by decide) rfl q1214 (fun _ h9 => h9) rfl rfl rfl dX5_goes_72 h (fun L2 h => ?_)
  refine aw_aload_n hK 0 dX5_goes_75 rfl rfl ?_
  refine aw_aload_n hK 0 dX5_goes_76 rfl rfl ?_
  refine aw_gI hK fw_c7 21 (by decide) rfl q1214 (fun _ h9 => h9) dX5_goes_77 h (fun v3 h => ?_)
  refine aw_bipush (v := (nI 22)) hK dX5_goes_80 rfl ?_
  refine aw_icmp_lt (tgt := 89) hK dX5_goes_82 (by decide) h (fun h => ?_) (fun h => ?_)
  · refine aw_aload_n hK 0 dX5_goes_89 rfl rfl ?_
    refine aw_gI hK fw_c7 21 (by decide) rfl q1214 (fun _ h9 => h9) dX5_goes_90 h (fun v4 h => ?_)
    refine aw_iconst (v := (nI 2)) hK dX5_goes_93 rfl ?_
    refine aw_icmp_gt (tgt := 101) hK dX5_goes_94 (by decide) h (fun h => ?_) (fun h => ?_)
    · refine aw_iconst (v := (-nI 1)) hK dX5_goes_101 rfl ?_
      exact w_X5_goes_102 hK hF h
    · refine aw_iconst (v := (nI 1)) hK dX5_goes_97 rfl ?_
      refine aw_goto (tgt := 102) hK dX5_goes_98 (by decide) ?_
      exact w_X5_goes_102 hK hF h
  · refine aw_iconst (v := (nI 0)) hK dX5_goes_85 rfl ?_
    refine aw_goto (tgt := 102) hK dX5_goes_86 (by decide) ?_
    exact w_X5_goes_102 hK hF h
set_option maxHeartbeats 4000000 in
set_option maxRecDepth 100000 in
theorem w_X5_goes_52 {K : Kx} {r9 : Unit} {L9 : LH} (hK : Ok K cX5_goes 4 RX5 0 0) (hF : Fin K none none L9) {j0 : Nat} {x1 : Int32} {x2 : Int32} {x3 : Int32} {sx0 : Int32} {sx1 : Int32} {sr2 : Option Nat} {L : LH} {mc ms : Nat} (h : f_X5_goes_52 j0 x1 x2 x3 sx0 sx1 sr2 L = some (r9, L9, mc, ms)) : AW K L mc ms 52 [(0, aR (some j0)), (1, aI x1), (2, aI x2), (3, aI x3)] [aI sx0, aI sx1, aR sr2] := by
  unfold f_X5_goes_52 at h
  refine aw_iadd hK dX5_goes_52 ?_
  obtain _ | j1 := sr2
  · exact (fw_nn_no h).elim
  replace h := fw_nn_so h
  refine aw_pI hK fw_c7 24 (by decide) rfl q1217 (fun _ h9 => h9) rfl rfl rfl dX5_goes_53 h (fun L2 h => ?_)
  refine aw_aload_n hK 0 dX5_goes_56 rfl rfl ?_
  refine aw_dup hK dX5_goes_57 rfl ?_
  refine aw_gI hK fw_c7 21 (by decide) rfl q1214 (fun _ h9 => h9) dX5_goes_58 h (fun v3 h => ?_)
  refine aw_iload_n hK 2 dX5_goes_61 rfl rfl ?_
  refine aw_if_ge (tgt := 70) hK dX5_goes_62 (by decide) h (fun h => ?_) (fun h => ?_)
  · refine aw_iload_n hK 3 dX5_goes_70 rfl rfl ?_
    exact aw_sub [0, 1] rfl (w_X5_goes_71 hK hF h)
  · refine aw_iload_n hK 3 dX5_goes_65 rfl rfl ?_
    refine aw_ineg hK dX5_goes_66 ?_
    refine aw_goto (tgt := 71) hK dX5_goes_67 (by decide) ?_
    exact aw_sub [0, 1] rfl (w_X5_goes_71 hK hF h)
set_option maxHeartbeats 4000000 in
set_option maxRecDepth 100000 in
theorem w_X5_goes_37 {K : Kx} {r9 : Unit} {L9 : LH} (hK : Ok K cX5_goes 4 RX5 0 0) (hF : Fin K none none L9) {j0 : Nat} {x1 : Int32} {x2 : Int32} {sx0 : Int32} {L : LH} {mc ms : Nat} (h : f_X5_goes_37 j0 x1 x2 sx0 L = some (r9, L9, mc, ms)) : AW K L mc ms 37 [(0, aR (some j0)), (1, aI x1), (2, aI x2)] [aI sx0] := by
  unfold f_X5_goes_37 at h
  refine aw_istore_n (lv' := [(3, aI sx0), (0, aR (some j0)), (1, aI x1), (2, aI x2)]) hK dX5_goes_37 rfl (by decide) rfl ?_
  refine aw_aload_n hK 1 dX5_goes_38 rfl rfl ?_
  refine aw_dup hK dX5_goes_39 rfl ?_
  refine aw_gI hK fw_c7 24 (by decide) rfl q1217 (fun _ h9 => h9) dX5_goes_40 h (fun v1 h => ?_)
  refine aw_iload_n hK 3 dX5_goes_43 rfl rfl ?_
  refine aw_if_ne (tgt := 51) hK dX5_goes_44 (by decide) h (fun h => ?_) (fun h => ?_)
  · refine aw_iconst (v := (nI 0)) hK dX5_goes_51 rfl ?_
    exact aw_sub [1, 2, 3, 0] rfl (w_X5_goes_52 hK hF h)
  · refine aw_iconst (v := (nI 1)) hK dX5_goes_47 rfl ?_
    refine aw_goto (tgt := 52) hK dX5_goes_48 (by decide) ?_
    exact aw_sub [1, 2, 3, 0] rfl (w_X5_goes_52 hK hF h)
set_option maxHeartbeats 4000000 in
set_option maxRecDepth 100000 in
theorem w_X5_goes_24 {K : Kx} {r9 : Unit} {L9 : LH} (hK : Ok K cX5_goes 4 RX5 0 0) (hF : Fin K none none L9) {j0 : Nat} {x1 : Int32} {x2 : Int32} {sx0 : Int32} {L : LH} {mc ms : Nat} (h : f_X5_goes_24 j0 x1 x2 sx0 L = some (r9, L9, mc, ms)) : AW K L mc ms 24 [(0, aR (some j0)), (1, aI x1), (2, aI x2)] [aI sx0] := by
  unfold f_X5_goes_24 at h
  refine aw_iconst (v := (nI 3)) hK dX5_goes_24 rfl ?_
  refine aw_idiv hK dX5_goes_25 (by decide) ?_
  refine aw_istore_n (lv' := [(3, aI (sx0 / (nI 3))), (0, aR (some j0)), (1, aI x1), (2, aI x2)]) hK dX5_goes_26 rfl (by decide) rfl ?_
  refine aw_iload_n hK 0 dX5_goes_27 rfl rfl ?_
  refine aw_iconst (v := (nI 3)) hK dX5_goes_28 rfl ?_
  refine aw_icmp_le (tgt := 36) hK dX5_goes_29 (by decide) h (fun h => ?_) (fun h => ?_)
  · refine aw_iload_n hK 0 dX5_goes_36 rfl rfl ?_
    exact aw_sub [1, 2, 3] rfl (w_X5_goes_37 hK hF h)
  · refine aw_iconst (v := (nI 3)) hK dX5_goes_32 rfl ?_
    refine aw_goto (tgt := 37) hK dX5_goes_33 (by decide) ?_
    exact aw_sub [1, 2, 3] rfl (w_X5_goes_37 hK hF h)
set_option maxHeartbeats 4000000 in
set_option maxRecDepth 100000 in
theorem w_X5_goes_0 {K : Kx} {r9 : Unit} {L9 : LH} (hK : Ok K cX5_goes 4 RX5 0 0) (hF : Fin K none none L9) {j0 : Nat} {x1 : Int32} {L : LH} {mc ms : Nat} (h : f_X5_goes j0 x1 L = some (r9, L9, mc, ms)) : AW K L mc ms 0 [(0, aR (some j0)), (1, aI x1)] [] := by
  unfold f_X5_goes at h
  refine aw_aload_n hK 0 dX5_goes_0 rfl rfl ?_
  refine aw_gR hK fw_c7 28 (by decide) rfl q1221 (fun _ h9 => h9) dX5_goes_1 h (fun r1 h => ?_)
  refine aw_iconst (v := (nI 0)) hK dX5_goes_4 rfl ?_
  obtain _ | j2 := r1
  · exact (fw_nn_no h).elim
  replace h := fw_nn_so h
  refine aw_iald hK dX5_goes_5 h (fun v3 h => ?_)
  refine aw_aload_n hK 0 dX5_goes_6 rfl rfl ?_
  refine aw_gR hK fw_c7 28 (by decide) rfl q1221 (fun _ h9 => h9) dX5_goes_7 h (fun r4 h => ?_)
  refine aw_iconst (v := (nI 1)) hK dX5_goes_10 rfl ?_
  obtain _ | j5 := r4
  · exact (fw_nn_no h).elim
  replace h := fw_nn_so h
  refine aw_iald hK dX5_goes_11 h (fun v6 h => ?_)
  refine aw_isub hK dX5_goes_12 ?_
  refine aw_istore_n (lv' := [(2, aI (v3 - v6)), (0, aR (some j0)), (1, aI x1)]) hK dX5_goes_13 rfl (by decide) rfl ?_
  refine aw_iload_n hK 0 dX5_goes_14 rfl rfl ?_
  refine aw_if_ge (tgt := 23) hK dX5_goes_15 (by decide) h (fun h => ?_) (fun h => ?_)
  · refine aw_iload_n hK 0 dX5_goes_23 rfl rfl ?_
    exact aw_sub [1, 2, 0] rfl (w_X5_goes_24 hK hF h)
  · refine aw_iload_n hK 0 dX5_goes_18 rfl rfl ?_
    refine aw_ineg hK dX5_goes_19 ?_
    refine aw_goto (tgt := 24) hK dX5_goes_20 (by decide) ?_
    exact aw_sub [1, 2, 0] rfl (w_X5_goes_24 hK hF h)
theorem ct_X5_goes {Z : fw_ZT} (hZ : fw_Zok Z) {j0 : Nat} {x1 : Int32} {L : LH} {r9 : Unit} {L9 : LH} {mc ms : Nat} (h : f_X5_goes j0 x1 L = some (r9, L9, mc, ms)) : Ct Z yX5_goes (ws_ yX5_goes cX5_goes 4 none) 0 0 [aR (some j0), aI x1] L none L9 mc ms :=
  ct_of (own := RX5) hZ (by decide +kernel) rfl (Nat.le_of_ble_eq_true rfl) (fun K _ hK hF hini => w_X5_goes_0 hK hF h)
def f_X5_ofRow (j0 : Nat) (x1 : Int32) (x2 : Int32) (L : LH) : Rs Int32 :=
  if x2 = (-nI 1) then (
    some (x1, L, 0, 0)
  ) else (
    if x1 ≤ x2 then (
      some ((-nI 1), L, 0, 0)
    ) else (
      fw_gR 8 L j0 36 fun r1 =>
      fw_nn r1 fun j2 =>
      fw_rd 100 L j2 x2 fun v3 =>
      some (v3, L, 0, 0)
    )
  )
set_option maxHeartbeats 4000000 in
set_option maxRecDepth 100000 in
theorem w_X5_ofRow_0 {K : Kx} {r9 : Int32} {L9 : LH} (hK : Ok K cX5_ofRow 3 RX5 0 0) (hF : Fin K (some (.int)) (some (aI r9)) L9) {j0 : Nat} {x1 : Int32} {x2 : Int32} {L : LH} {mc ms : Nat} (h : f_X5_ofRow j0 x1 x2 L = some (r9, L9, mc, ms)) : AW K L mc ms 0 [(0, aR (some j0)), (1, aI x1), (2, aI x2)] [] := by
  unfold f_X5_ofRow at h
  refine aw_iload_n hK 2 dX5_ofRow_0 rfl rfl ?_
  refine aw_iconst (v := (-nI 1)) hK dX5_ofRow_1 rfl ?_
  refine aw_icmp_ne (tgt := 9) hK dX5_ofRow_2 (by decide) h (fun h => ?_) (fun h => ?_)
  · refine aw_iload_n hK 2 dX5_ofRow_9 rfl rfl ?_
    refine aw_iload_n hK 1 dX5_ofRow_10 rfl rfl ?_
    refine aw_icmp_ge (tgt := 23) hK dX5_ofRow_11 (by decide) h (fun h => ?_) (fun h => ?_)
    · refine aw_iconst (v := (-nI 1)) hK dX5_ofRow_23 rfl ?_
      exact aw_iret hK dX5_ofRow_24 h hF
    · refine aw_aload_n hK 0 dX5_ofRow_14 rfl rfl ?_
      refine aw_gR hK fw_c7 36 (by decide) rfl q1229 (fun _ h9 => h9) dX5_ofRow_15 h (fun r1 h => ?_)
      refine aw_iload_n hK 2 dX5_ofRow_18 rfl rfl ?_
      obtain _ | j2 := r1
      · exact (fw_nn_no h).elim
      replace h := fw_nn_so h
      refine aw_iald hK dX5_ofRow_19 h (fun v3 h => ?_)
      refine aw_goto (tgt := 24) hK dX5_ofRow_20 (by decide) ?_
      exact aw_iret hK dX5_ofRow_24 h hF
  · refine aw_iload_n hK 1 dX5_ofRow_5 rfl rfl ?_
    refine aw_goto (tgt := 24) hK dX5_ofRow_6 (by decide) ?_
    exact aw_iret hK dX5_ofRow_24 h hF
theorem ct_X5_ofRow {Z : fw_ZT} (hZ : fw_Zok Z) {j0 : Nat} {x1 : Int32} {x2 : Int32} {L : LH} {r9 : Int32} {L9 : LH} {mc ms : Nat} (h : f_X5_ofRow j0 x1 x2 L = some (r9, L9, mc, ms)) : Ct Z yX5_ofRow (ws_ yX5_ofRow cX5_ofRow 3 (some (.int))) 0 0 [aR (some j0), aI x1, aI x2] L (some (aI r9)) L9 mc ms :=
  ct_of (own := RX5) hZ (by decide +kernel) rfl (Nat.le_of_ble_eq_true rfl) (fun K _ hK hF hini => w_X5_ofRow_0 hK hF h)
def f_X5_seen (j0 : Nat) (x1 : Int32) (x2 : Int32) (L : LH) : Rs Int32 :=
  fw_cl (f_X5_isBeat x1 L) fun v2 L1 =>
  if v2 = 0 then (
    some ((-nI 2), L1, 0, 0)
  ) else (
    fw_cl (f_X5_in x2 (nI 0) (nI 24) L1) fun v4 L3 =>
    if v4 = 0 then (
      some ((-nI 2), L3, 0, 0)
    ) else (
      fw_gI 8 L3 j0 37 fun v5 =>
      if v5 = (nI 8) then (
        some ((-nI 4), L3, 0, 0)
      ) else (
        fw_gR 8 L3 j0 38 fun r6 =>
        fw_gI 8 L3 j0 37 fun v7 =>
        fw_nn r6 fun j8 =>
        fw_wr 100 L3 j8 v7 x1 fun L9 =>
        fw_gR 8 L9 j0 39 fun r10 =>
        fw_gI 8 L9 j0 37 fun v11 =>
        fw_nn r10 fun j12 =>
        fw_wr 100 L9 j12 v11 x2 fun L13 =>
        fw_gI 8 L13 j0 37 fun v14 =>
        fw_pI 8 L13 j0 37 (v14 + (nI 1)) fun L15 =>
        fw_gI 8 L15 j0 37 fun v16 =>
        some (v16, L15, 0, 0)
      )
    )
  )
set_option maxHeartbeats 4000000 in
set_option maxRecDepth 100000 in
theorem w_X5_seen_0 {K : Kx} {r9 : Int32} {L9 : LH} (hK : Ok K cX5_seen 3 RX5 2 42) (hF : Fin K (some (.int)) (some (aI r9)) L9) {j0 : Nat} {x1 : Int32} {x2 : Int32} {L : LH} {mc ms : Nat} (h : f_X5_seen j0 x1 x2 L = some (r9, L9, mc, ms)) : AW K L mc ms 0 [(0, aR (some j0)), (1, aI x1), (2, aI x2)] [] := by
  unfold f_X5_seen at h
  refine aw_iload_n hK 1 dX5_seen_0 rfl rfl ?_
  refine aw_callS_i (n := 1) hK (fun _ _ _ _ q => ct_X5_isBeat hK.zk q) (lw_S q1411 q1412 q102 q1413) (by decide +kernel) (by decide) rfl rfl (Nat.le_of_ble_eq_true rfl) dX5_seen_1 h (fun v2 L1 _ _ h => ?_)
  refine aw_if_eq (tgt := 17) hK dX5_seen_4 (by decide) h (fun h => ?_) (fun h => ?_)
  · refine aw_bipush (v := (-nI 2)) hK dX5_seen_17 rfl ?_
    exact aw_iret hK dX5_seen_19 h hF
  · refine aw_iload_n hK 2 dX5_seen_7 rfl rfl ?_
    refine aw_iconst (v := (nI 0)) hK dX5_seen_8 rfl ?_
    refine aw_bipush (v := (nI 24)) hK dX5_seen_9 rfl ?_
    refine aw_callS_i (n := 3) hK (fun _ _ _ _ q => ct_X5_in hK.zk q) (lw_S q1343 q1344 q102 q1345) (by decide +kernel) (by decide) rfl rfl (Nat.le_of_ble_eq_true rfl) dX5_seen_11 h (fun v4 L3 _ _ h => ?_)
    refine aw_if_ne (tgt := 20) hK dX5_seen_14 (by decide) h (fun h => ?_) (fun h => ?_)
    · refine aw_aload_n hK 0 dX5_seen_20 rfl rfl ?_
      refine aw_gI hK fw_c7 37 (by decide) rfl q1230 (fun _ h9 => h9) dX5_seen_21 h (fun v5 h => ?_)
      refine aw_bipush (v := (nI 8)) hK dX5_seen_24 rfl ?_
      refine aw_icmp_ne (tgt := 32) hK dX5_seen_26 (by decide) h (fun h => ?_) (fun h => ?_)
      · refine aw_aload_n hK 0 dX5_seen_32 rfl rfl ?_
        refine aw_gR hK fw_c7 38 (by decide) rfl q1231 (fun _ h9 => h9) dX5_seen_33 h (fun r6 h => ?_)
        refine aw_aload_n hK 0 dX5_seen_36 rfl rfl ?_
        refine aw_gI hK fw_c7 37 (by decide) rfl q1230 (fun _ h9 => h9) dX5_seen_37 h (fun v7 h => ?_)
        refine aw_iload_n hK 1 dX5_seen_40 rfl rfl ?_
        obtain _ | j8 := r6
        · exact (fw_nn_no h).elim
        replace h := fw_nn_so h
        refine aw_iast hK dX5_seen_41 h (fun L9 h => ?_)
        refine aw_aload_n hK 0 dX5_seen_42 rfl rfl ?_
        refine aw_gR hK fw_c7 39 (by decide) rfl q1232 (fun _ h9 => h9) dX5_seen_43 h (fun r10 h => ?_)
        refine aw_aload_n hK 0 dX5_seen_46 rfl rfl ?_
        refine aw_gI hK fw_c7 37 (by decide) rfl q1230 (fun _ h9 => h9) dX5_seen_47 h (fun v11 h => ?_)
        refine aw_iload_n hK 2 dX5_seen_50 rfl rfl ?_
        obtain _ | j12 := r10
        · exact (fw_nn_no h).elim
        replace h := fw_nn_so h
        refine aw_iast hK dX5_seen_51 h (fun L13 h => ?_)
        refine aw_aload_n hK 0 dX5_seen_52 rfl rfl ?_
        refine aw_dup hK dX5_seen_53 rfl ?_
        refine aw_gI hK fw_c7 37 (by decide) rfl q1230 (fun _ h9 => h9) dX5_seen_54 h (fun v14 h => ?_)
        refine aw_iconst (v := (nI 1)) hK dX5_seen_57 rfl ?_
        refine aw_iadd hK dX5_seen_58 ?_
        refine aw_pI hK fw_c7 37 (by decide) rfl q1230 (fun _ h9 => h9) rfl rfl rfl dX5_seen_59 h (fun L15 h => ?_)
        refine aw_aload_n hK 0 dX5_seen_62 rfl rfl ?_
        refine aw_gI hK fw_c7 37 (by decide) rfl q1230 (fun _ h9 => h9) dX5_seen_63 h (fun v16 h => ?_)
        exact aw_iret hK dX5_seen_66 h hF
      · refine aw_bipush (v := (-nI 4)) hK dX5_seen_29 rfl ?_
        exact aw_iret hK dX5_seen_31 h hF
    · refine aw_bipush (v := (-nI 2)) hK dX5_seen_17 rfl ?_
      exact aw_iret hK dX5_seen_19 h hF
theorem ct_X5_seen {Z : fw_ZT} (hZ : fw_Zok Z) {j0 : Nat} {x1 : Int32} {x2 : Int32} {L : LH} {r9 : Int32} {L9 : LH} {mc ms : Nat} (h : f_X5_seen j0 x1 x2 L = some (r9, L9, mc, ms)) : Ct Z yX5_seen (ws_ yX5_seen cX5_seen 3 (some (.int))) 2 42 [aR (some j0), aI x1, aI x2] L (some (aI r9)) L9 mc ms :=
  ct_of (own := RX5) hZ (by decide +kernel) rfl (Nat.le_of_ble_eq_true rfl) (fun K _ hK hF hini => w_X5_seen_0 hK hF h)
def f_X5_forget (j0 : Nat) (L : LH) : Rs Int32 :=
  fw_gI 8 L j0 37 fun v1 =>
  fw_pI 8 L j0 37 (nI 0) fun L2 =>
  some (v1, L2, 0, 0)
set_option maxHeartbeats 4000000 in
set_option maxRecDepth 100000 in
theorem w_X5_forget_0 {K : Kx} {r9 : Int32} {L9 : LH} (hK : Ok K cX5_forget 2 RX5 0 0) (hF : Fin K (some (.int)) (some (aI r9)) L9) {j0 : Nat} {L : LH} {mc ms : Nat} (h : f_X5_forget j0 L = some (r9, L9, mc, ms)) : AW K L mc ms 0 [(0, aR (some j0))] [] := by
  unfold f_X5_forget at h
  refine aw_aload_n hK 0 dX5_forget_0 rfl rfl ?_
  refine aw_gI hK fw_c7 37 (by decide) rfl q1230 (fun _ h9 => h9) dX5_forget_1 h (fun v1 h => ?_)
  refine aw_istore_n (lv' := [(1, aI v1), (0, aR (some j0))]) hK dX5_forget_4 rfl (by decide) rfl ?_
  refine aw_aload_n hK 1 dX5_forget_5 rfl rfl ?_
  refine aw_iconst (v := (nI 0)) hK dX5_forget_6 rfl ?_
  refine aw_pI hK fw_c7 37 (by decide) rfl q1230 (fun _ h9 => h9) rfl rfl rfl dX5_forget_7 h (fun L2 h => ?_)
  refine aw_iload_n hK 0 dX5_forget_10 rfl rfl ?_
  exact aw_iret hK dX5_forget_11 h hF
theorem ct_X5_forget {Z : fw_ZT} (hZ : fw_Zok Z) {j0 : Nat} {L : LH} {r9 : Int32} {L9 : LH} {mc ms : Nat} (h : f_X5_forget j0 L = some (r9, L9, mc, ms)) : Ct Z yX5_forget (ws_ yX5_forget cX5_forget 2 (some (.int))) 0 0 [aR (some j0)] L (some (aI r9)) L9 mc ms :=
  ct_of (own := RX5) hZ (by decide +kernel) rfl (Nat.le_of_ble_eq_true rfl) (fun K _ hK hF hini => w_X5_forget_0 hK hF h)
def f_X5_lowest_6 : Nat → Int64 → Int64 → Int32 → Int64 → Int64 → LH → Rs Int64
  | 0, _, _, _, _, _, _ => none
  | n + 1, y0, y2, x4, y5, y7, L =>
    if y7 = (0 : Int64) then (
      if x4 = 0 then (
        fw_nzl y5 <|
        some ((y0 / y5), L, 0, 0)
      ) else (
        fw_nzl y5 <|
        some ((y2 / y5), L, 0, 0)
      )
    ) else (
      fw_nzl y7 <|
      f_X5_lowest_6 n y0 y2 x4 y7 (y5 - y5 / y7 * y7) L
    )
def f_X5_lowest (y0 : Int64) (y2 : Int64) (x4 : Int32) (L : LH) : Rs Int64 :=
  f_X5_lowest_6 fw_fuel y0 y2 x4 y0 y2 L
set_option maxHeartbeats 4000000 in
set_option maxRecDepth 100000 in
theorem w_X5_lowest_6 {K : Kx} {r9 : Int64} {L9 : LH} (hK : Ok K cX5_lowest 11 RX5 0 0) (hF : Fin K (some (.long)) (some (aL r9)) L9) : ∀ {n : Nat} {y0 : Int64} {y2 : Int64} {x4 : Int32} {y5 : Int64} {y7 : Int64} {L : LH} {mc ms : Nat}, f_X5_lowest_6 n y0 y2 x4 y5 y7 L = some (r9, L9, mc, ms) → AW K L mc ms 6 [(0, aL y0), (2, aL y2), (4, aI x4), (5, aL y5), (7, aL y7)] [] := by
  intro n
  induction n with
  | zero =>
    intro y0 y2 x4 y5 y7 L mc ms h
    have h : (none : Rs Int64) = some (r9, L9, mc, ms) := h
    cases h
  | succ n ih =>
    intro y0 y2 x4 y5 y7 L mc ms h
    unfold f_X5_lowest_6 at h
    refine aw_lload hK 4 dX5_lowest_6 rfl ?_
    refine aw_lconst (v := 0) hK dX5_lowest_8 rfl ?_
    refine aw_lcmp_eq (tgt := 31) hK dX5_lowest_9 dX5_lowest_10 (by decide) h (fun h => ?_) (fun h => ?_)
    · refine aw_iload hK 2 dX5_lowest_31 rfl ?_
      refine aw_if_ne (tgt := 43) hK dX5_lowest_33 (by decide) h (fun h => ?_) (fun h => ?_)
      · refine aw_lload_n hK 1 dX5_lowest_43 rfl rfl ?_
        refine aw_lload hK 3 dX5_lowest_44 rfl ?_
        obtain ⟨hne, h⟩ := fw_nzl_h h
        refine aw_ldiv hK dX5_lowest_46 hne ?_
        exact aw_lret hK dX5_lowest_47 h hF
      · refine aw_lload_n hK 0 dX5_lowest_36 rfl rfl ?_
        refine aw_lload hK 3 dX5_lowest_37 rfl ?_
        obtain ⟨hne, h⟩ := fw_nzl_h h
        refine aw_ldiv hK dX5_lowest_39 hne ?_
        refine aw_goto (tgt := 47) hK dX5_lowest_40 (by decide) ?_
        exact aw_lret hK dX5_lowest_47 h hF
    · refine aw_lload hK 3 dX5_lowest_13 rfl ?_
      refine aw_lload hK 4 dX5_lowest_15 rfl ?_
      obtain ⟨hne, h⟩ := fw_nzl_h h
      refine aw_lrem hK dX5_lowest_17 hne ?_
      refine aw_lstore (lv' := [(9, aL (y5 - y5 / y7 * y7)), (0, aL y0), (2, aL y2), (4, aI x4), (5, aL y5), (7, aL y7)]) hK dX5_lowest_18 (by decide) rfl ?_
      refine aw_lload hK 5 dX5_lowest_20 rfl ?_
      refine aw_lstore (lv' := [(5, aL y7), (9, aL (y5 - y5 / y7 * y7)), (0, aL y0), (2, aL y2), (4, aI x4), (7, aL y7)]) hK dX5_lowest_22 (by decide) rfl ?_
      refine aw_lload hK 1 dX5_lowest_24 rfl ?_
      refine aw_lstore (lv' := [(7, aL (y5 - y5 / y7 * y7)), (5, aL y7), (9, aL (y5 - y5 / y7 * y7)), (0, aL y0), (2, aL y2), (4, aI x4)]) hK dX5_lowest_26 (by decide) rfl ?_
      refine aw_goto (tgt := 6) hK dX5_lowest_28 (by decide) ?_
      exact aw_sub [3, 4, 5, 1, 0] rfl (ih h)
set_option maxHeartbeats 4000000 in
set_option maxRecDepth 100000 in
theorem w_X5_lowest_0 {K : Kx} {r9 : Int64} {L9 : LH} (hK : Ok K cX5_lowest 11 RX5 0 0) (hF : Fin K (some (.long)) (some (aL r9)) L9) {y0 : Int64} {y2 : Int64} {x4 : Int32} {L : LH} {mc ms : Nat} (h : f_X5_lowest y0 y2 x4 L = some (r9, L9, mc, ms)) : AW K L mc ms 0 [(0, aL y0), (2, aL y2), (4, aI x4)] [] := by
  unfold f_X5_lowest at h
  refine aw_lload_n hK 0 dX5_lowest_0 rfl rfl ?_
  refine aw_lstore (lv' := [(5, aL y0), (0, aL y0), (2, aL y2), (4, aI x4)]) hK dX5_lowest_1 (by decide) rfl ?_
  refine aw_lload_n hK 2 dX5_lowest_3 rfl rfl ?_
  refine aw_lstore (lv' := [(7, aL y2), (5, aL y0), (0, aL y0), (2, aL y2), (4, aI x4)]) hK dX5_lowest_4 (by decide) rfl ?_
  exact aw_sub [2, 3, 4, 1, 0] rfl (w_X5_lowest_6 hK hF h)
theorem ct_X5_lowest {Z : fw_ZT} (hZ : fw_Zok Z) {y0 : Int64} {y2 : Int64} {x4 : Int32} {L : LH} {r9 : Int64} {L9 : LH} {mc ms : Nat} (h : f_X5_lowest y0 y2 x4 L = some (r9, L9, mc, ms)) : Ct Z yX5_lowest (ws_ yX5_lowest cX5_lowest 11 (some (.long))) 0 0 [aL y0, aL y2, aI x4] L (some (aL r9)) L9 mc ms :=
  ct_of (own := RX5) hZ (by decide +kernel) rfl (Nat.le_of_ble_eq_true rfl) (fun K _ hK hF hini => w_X5_lowest_0 hK hF h)
def f_X5_no (x0 : Int32) (L : LH) : Rs Int64 :=
  some (((-9223372036854775808 : Int64) - x0.toInt64), L, 0, 0)
set_option maxHeartbeats 4000000 in
set_option maxRecDepth 100000 in
theorem w_X5_no_0 {K : Kx} {r9 : Int64} {L9 : LH} (hK : Ok K cX5_no 1 RX5 0 0) (hF : Fin K (some (.long)) (some (aL r9)) L9) {x0 : Int32} {L : LH} {mc ms : Nat} (h : f_X5_no x0 L = some (r9, L9, mc, ms)) : AW K L mc ms 0 [(0, aI x0)] [] := by
  unfold f_X5_no at h
  refine aw_ldc2 (v := -9223372036854775808) hK q1647 dX5_no_0 ?_
  refine aw_iload_n hK 0 dX5_no_3 rfl rfl ?_
  refine aw_i2l hK dX5_no_4 ?_
  refine aw_lsub hK dX5_no_5 ?_
  exact aw_lret hK dX5_no_6 h hF
theorem ct_X5_no {Z : fw_ZT} (hZ : fw_Zok Z) {x0 : Int32} {L : LH} {r9 : Int64} {L9 : LH} {mc ms : Nat} (h : f_X5_no x0 L = some (r9, L9, mc, ms)) : Ct Z yX5_no (ws_ yX5_no cX5_no 1 (some (.long))) 0 0 [aI x0] L (some (aL r9)) L9 mc ms :=
  ct_of (own := RX5) hZ (by decide +kernel) rfl (Nat.le_of_ble_eq_true rfl) (fun K _ hK hF hini => w_X5_no_0 hK hF h)
def f_X5_sheet_59 : Nat → Nat → Int32 → Int32 → Int32 → LH → Rs Int32
  | 0, _, _, _, _, _ => none
  | n + 1, j0, x1, x3, x4, L =>
    if (nI 60) ≤ x4 then (
      some (x3, L, 0, 0)
    ) else (
      fw_gR 8 L j0 44 fun r1 =>
      fw_nn r1 fun j2 =>
      fw_wr 100 L j2 (((nI 60) * x1) + x4) (nI 0) fun L3 =>
      f_X5_sheet_59 n j0 x1 x3 (x4 + (nI 1)) L3
    )
def f_X5_sheet (j0 : Nat) (x1 : Int32) (x2 : Int32) (x3 : Int32) (L : LH) : Rs Int32 :=
  fw_cl (f_X5_isSheet x1 L) fun v2 L1 =>
  if v2 = 0 then (
    some ((-nI 2), L1, 0, 0)
  ) else (
    fw_cl (f_X5_in x2 (nI 0) (nI 2) L1) fun v4 L3 =>
    if v4 = 0 then (
      some ((-nI 2), L3, 0, 0)
    ) else (
      if x3 ≤ (nI 60) then (
        if 0 ≤ x3 then (
          fw_gR 8 L3 j0 41 fun r5 =>
          fw_nn r5 fun j6 =>
          fw_wr 103 L3 j6 x1 (vp_nar .boolean (nI 1)) fun L7 =>
          fw_gR 8 L7 j0 42 fun r8 =>
          fw_nn r8 fun j9 =>
          fw_wr 100 L7 j9 x1 x2 fun L10 =>
          fw_gR 8 L10 j0 43 fun r11 =>
          fw_nn r11 fun j12 =>
          fw_wr 100 L10 j12 x1 x3 fun L13 =>
          f_X5_sheet_59 fw_fuel j0 x1 x3 (nI 0) L13
        ) else (
          fw_is 8 L3 j0 <|
          fw_cl (f_X5_meets j0 (nI 5) L3) fun v15 L14 =>
          some (v15, L14, 0, 0)
        )
      ) else (
        some ((-nI 2), L3, 0, 0)
      )
    )
  )
set_option maxHeartbeats 4000000 in
set_option maxRecDepth 100000 in
theorem w_X5_sheet_59 {K : Kx} {r9 : Int32} {L9 : LH} (hK : Ok K cX5_sheet 5 RX5 2 42) (hF : Fin K (some (.int)) (some (aI r9)) L9) : ∀ {n : Nat} {j0 : Nat} {x1 : Int32} {x3 : Int32} {x4 : Int32} {L : LH} {mc ms : Nat}, f_X5_sheet_59 n j0 x1 x3 x4 L = some (r9, L9, mc, ms) → AW K L mc ms 59 [(0, aR (some j0)), (1, aI x1), (3, aI x3), (4, aI x4)] [] := by
  intro n
  induction n with
  | zero =>
    intro j0 x1 x3 x4 L mc ms h
    have h : (none : Rs Int32) = some (r9, L9, mc, ms) := h
    cases h
  | succ n ih =>
    intro j0 x1 x3 x4 L mc ms h
    unfold f_X5_sheet_59 at h
    refine aw_iload hK 3 dX5_sheet_59 rfl ?_
    refine aw_bipush (v := (nI 60)) hK dX5_sheet_61 rfl ?_
    refine aw_icmp_ge (tgt := 85) hK dX5_sheet_63 (by decide) h (fun h => ?_) (fun h => ?_)
    · refine aw_iload_n hK 2 dX5_sheet_85 rfl rfl ?_
      exact aw_iret hK dX5_sheet_86 h hF
    · refine aw_aload_n hK 0 dX5_sheet_66 rfl rfl ?_
      refine aw_gR hK fw_c7 44 (by decide) rfl q1237 (fun _ h9 => h9) dX5_sheet_67 h (fun r1 h => ?_)
      refine aw_bipush (v := (nI 60)) hK dX5_sheet_70 rfl ?_
      refine aw_iload_n hK 1 dX5_sheet_72 rfl rfl ?_
      refine aw_imul hK dX5_sheet_73 ?_
      refine aw_iload hK 3 dX5_sheet_74 rfl ?_
      refine aw_iadd hK dX5_sheet_76 ?_
      refine aw_iconst (v := (nI 0)) hK dX5_sheet_77 rfl ?_
      obtain _ | j2 := r1
      · exact (fw_nn_no h).elim
      replace h := fw_nn_so h
      refine aw_iast hK dX5_sheet_78 h (fun L3 h => ?_)
      refine aw_iinc (v := (x4 + (nI 1))) (lv' := [(4, aI (x4 + (nI 1))), (0, aR (some j0)), (1, aI x1), (3, aI x3)]) hK 3 dX5_sheet_79 rfl rfl (by decide) rfl ?_
      refine aw_goto (tgt := 59) hK dX5_sheet_82 (by decide) ?_
      exact aw_sub [1, 2, 3, 0] rfl (ih h)
set_option maxHeartbeats 4000000 in
set_option maxRecDepth 100000 in
theorem w_X5_sheet_0 {K : Kx} {r9 : Int32} {L9 : LH} (hK : Ok K cX5_sheet 5 RX5 2 42) (hF : Fin K (some (.int)) (some (aI r9)) L9) {j0 : Nat} {x1 : Int32} {x2 : Int32} {x3 : Int32} {L : LH} {mc ms : Nat} (h : f_X5_sheet j0 x1 x2 x3 L = some (r9, L9, mc, ms)) : AW K L mc ms 0 [(0, aR (some j0)), (1, aI x1), (2, aI x2), (3, aI x3)] [] := by
  unfold f_X5_sheet at h
  refine aw_iload_n hK 1 dX5_sheet_0 rfl rfl ?_
  refine aw_callS_i (n := 1) hK (fun _ _ _ _ q => ct_X5_isSheet hK.zk q) (lw_S q1434 q1435 q102 q1436) (by decide +kernel) (by decide) rfl rfl (Nat.le_of_ble_eq_true rfl) dX5_sheet_1 h (fun v2 L1 _ _ h => ?_)
  refine aw_if_eq (tgt := 22) hK dX5_sheet_4 (by decide) h (fun h => ?_) (fun h => ?_)
  · refine aw_bipush (v := (-nI 2)) hK dX5_sheet_22 rfl ?_
    exact aw_iret hK dX5_sheet_24 h hF
  · refine aw_iload_n hK 2 dX5_sheet_7 rfl rfl ?_
    refine aw_iconst (v := (nI 0)) hK dX5_sheet_8 rfl ?_
    refine aw_iconst (v := (nI 2)) hK dX5_sheet_9 rfl ?_
    refine aw_callS_i (n := 3) hK (fun _ _ _ _ q => ct_X5_in hK.zk q) (lw_S q1343 q1344 q102 q1345) (by decide +kernel) (by decide) rfl rfl (Nat.le_of_ble_eq_true rfl) dX5_sheet_10 h (fun v4 L3 _ _ h => ?_)
    refine aw_if_eq (tgt := 22) hK dX5_sheet_13 (by decide) h (fun h => ?_) (fun h => ?_)
    · refine aw_bipush (v := (-nI 2)) hK dX5_sheet_22 rfl ?_
      exact aw_iret hK dX5_sheet_24 h hF
    · refine aw_iload_n hK 3 dX5_sheet_16 rfl rfl ?_
      refine aw_bipush (v := (nI 60)) hK dX5_sheet_17 rfl ?_
      refine aw_icmp_le (tgt := 25) hK dX5_sheet_19 (by decide) h (fun h => ?_) (fun h => ?_)
      · refine aw_iload_n hK 3 dX5_sheet_25 rfl rfl ?_
        refine aw_if_ge (tgt := 35) hK dX5_sheet_26 (by decide) h (fun h => ?_) (fun h => ?_)
        · refine aw_aload_n hK 0 dX5_sheet_35 rfl rfl ?_
          refine aw_gR hK fw_c7 41 (by decide) rfl q1234 (fun _ h9 => h9) dX5_sheet_36 h (fun r5 h => ?_)
          refine aw_iload_n hK 1 dX5_sheet_39 rfl rfl ?_
          refine aw_iconst (v := (nI 1)) hK dX5_sheet_40 rfl ?_
          obtain _ | j6 := r5
          · exact (fw_nn_no h).elim
          replace h := fw_nn_so h
          refine aw_zast hK dX5_sheet_41 h (fun L7 h => ?_)
          refine aw_aload_n hK 0 dX5_sheet_42 rfl rfl ?_
          refine aw_gR hK fw_c7 42 (by decide) rfl q1235 (fun _ h9 => h9) dX5_sheet_43 h (fun r8 h => ?_)
          refine aw_iload_n hK 1 dX5_sheet_46 rfl rfl ?_
          refine aw_iload_n hK 2 dX5_sheet_47 rfl rfl ?_
          obtain _ | j9 := r8
          · exact (fw_nn_no h).elim
          replace h := fw_nn_so h
          refine aw_iast hK dX5_sheet_48 h (fun L10 h => ?_)
          refine aw_aload_n hK 0 dX5_sheet_49 rfl rfl ?_
          refine aw_gR hK fw_c7 43 (by decide) rfl q1236 (fun _ h9 => h9) dX5_sheet_50 h (fun r11 h => ?_)
          refine aw_iload_n hK 1 dX5_sheet_53 rfl rfl ?_
          refine aw_iload_n hK 3 dX5_sheet_54 rfl rfl ?_
          obtain _ | j12 := r11
          · exact (fw_nn_no h).elim
          replace h := fw_nn_so h
          refine aw_iast hK dX5_sheet_55 h (fun L13 h => ?_)
          refine aw_iconst (v := (nI 0)) hK dX5_sheet_56 rfl ?_
          refine aw_istore (lv' := [(4, aI (nI 0)), (0, aR (some j0)), (1, aI x1), (2, aI x2), (3, aI x3)]) hK dX5_sheet_57 (by decide) rfl ?_
          exact aw_sub [1, 2, 4, 0] rfl (w_X5_sheet_59 hK hF h)
        · refine aw_aload_n hK 0 dX5_sheet_29 rfl rfl ?_
          refine aw_iconst (v := (nI 5)) hK dX5_sheet_30 rfl ?_
          obtain ⟨hj, h⟩ := fw_is_h h
          refine aw_callV_i (n := 1) hK fw_c7 hj (fun _ _ _ _ q => ct_X5_meets hK.zk q) (lw_V q1437 q1439 qs54 q102 q1440) (by decide +kernel) (by decide) rfl rfl (Nat.le_of_ble_eq_true rfl) dX5_sheet_31 h (fun v15 L14 _ _ h => ?_)
          exact aw_iret hK dX5_sheet_34 h hF
      · refine aw_bipush (v := (-nI 2)) hK dX5_sheet_22 rfl ?_
        exact aw_iret hK dX5_sheet_24 h hF
theorem ct_X5_sheet {Z : fw_ZT} (hZ : fw_Zok Z) {j0 : Nat} {x1 : Int32} {x2 : Int32} {x3 : Int32} {L : LH} {r9 : Int32} {L9 : LH} {mc ms : Nat} (h : f_X5_sheet j0 x1 x2 x3 L = some (r9, L9, mc, ms)) : Ct Z yX5_sheet (ws_ yX5_sheet cX5_sheet 5 (some (.int))) 2 42 [aR (some j0), aI x1, aI x2, aI x3] L (some (aI r9)) L9 mc ms :=
  ct_of (own := RX5) hZ (by decide +kernel) rfl (Nat.le_of_ble_eq_true rfl) (fun K _ hK hF hini => w_X5_sheet_0 hK hF h)
def f_X5_lose (j0 : Nat) (x1 : Int32) (L : LH) : Rs Int32 :=
  fw_cl (f_X5_isSheet x1 L) fun v2 L1 =>
  if v2 = 0 then (
    some ((-nI 2), L1, 0, 0)
  ) else (
    fw_gR 8 L1 j0 41 fun r3 =>
    fw_nn r3 fun j4 =>
    fw_rd 103 L1 j4 x1 fun v5 =>
    if v5 = 0 then (
      fw_is 8 L1 j0 <|
      fw_cl (f_X5_meets j0 (nI 1) L1) fun v13 L12 =>
      some (v13, L12, 0, 0)
    ) else (
      fw_gR 8 L1 j0 41 fun r6 =>
      fw_nn r6 fun j7 =>
      fw_wr 103 L1 j7 x1 (vp_nar .boolean (nI 0)) fun L8 =>
      fw_gR 8 L8 j0 43 fun r9 =>
      fw_nn r9 fun j10 =>
      fw_rd 100 L8 j10 x1 fun v11 =>
      some (v11, L8, 0, 0)
    )
  )
set_option maxHeartbeats 4000000 in
set_option maxRecDepth 100000 in
theorem w_X5_lose_0 {K : Kx} {r9 : Int32} {L9 : LH} (hK : Ok K cX5_lose 2 RX5 2 42) (hF : Fin K (some (.int)) (some (aI r9)) L9) {j0 : Nat} {x1 : Int32} {L : LH} {mc ms : Nat} (h : f_X5_lose j0 x1 L = some (r9, L9, mc, ms)) : AW K L mc ms 0 [(0, aR (some j0)), (1, aI x1)] [] := by
  unfold f_X5_lose at h
  refine aw_iload_n hK 1 dX5_lose_0 rfl rfl ?_
  refine aw_callS_i (n := 1) hK (fun _ _ _ _ q => ct_X5_isSheet hK.zk q) (lw_S q1434 q1435 q102 q1436) (by decide +kernel) (by decide) rfl rfl (Nat.le_of_ble_eq_true rfl) dX5_lose_1 h (fun v2 L1 _ _ h => ?_)
  refine aw_if_ne (tgt := 10) hK dX5_lose_4 (by decide) h (fun h => ?_) (fun h => ?_)
  · refine aw_aload_n hK 0 dX5_lose_10 rfl rfl ?_
    refine aw_gR hK fw_c7 41 (by decide) rfl q1234 (fun _ h9 => h9) dX5_lose_11 h (fun r3 h => ?_)
    refine aw_iload_n hK 1 dX5_lose_14 rfl rfl ?_
    obtain _ | j4 := r3
    · exact (fw_nn_no h).elim
    replace h := fw_nn_so h
    refine aw_zald hK dX5_lose_15 h (fun v5 h => ?_)
    refine aw_if_ne (tgt := 25) hK dX5_lose_16 (by decide) h (fun h => ?_) (fun h => ?_)
    · refine aw_aload_n hK 0 dX5_lose_25 rfl rfl ?_
      refine aw_gR hK fw_c7 41 (by decide) rfl q1234 (fun _ h9 => h9) dX5_lose_26 h (fun r6 h => ?_)
      refine aw_iload_n hK 1 dX5_lose_29 rfl rfl ?_
      refine aw_iconst (v := (nI 0)) hK dX5_lose_30 rfl ?_
      obtain _ | j7 := r6
      · exact (fw_nn_no h).elim
      replace h := fw_nn_so h
      refine aw_zast hK dX5_lose_31 h (fun L8 h => ?_)
      refine aw_aload_n hK 0 dX5_lose_32 rfl rfl ?_
      refine aw_gR hK fw_c7 43 (by decide) rfl q1236 (fun _ h9 => h9) dX5_lose_33 h (fun r9 h => ?_)
      refine aw_iload_n hK 1 dX5_lose_36 rfl rfl ?_
      obtain _ | j10 := r9
      · exact (fw_nn_no h).elim
      replace h := fw_nn_so h
      refine aw_iald hK dX5_lose_37 h (fun v11 h => ?_)
      exact aw_iret hK dX5_lose_38 h hF
    · refine aw_aload_n hK 0 dX5_lose_19 rfl rfl ?_
      refine aw_iconst (v := (nI 1)) hK dX5_lose_20 rfl ?_
      obtain ⟨hj, h⟩ := fw_is_h h
      refine aw_callV_i (n := 1) hK fw_c7 hj (fun _ _ _ _ q => ct_X5_meets hK.zk q) (lw_V q1437 q1439 qs54 q102 q1440) (by decide +kernel) (by decide) rfl rfl (Nat.le_of_ble_eq_true rfl) dX5_lose_21 h (fun v13 L12 _ _ h => ?_)
      exact aw_iret hK dX5_lose_24 h hF
  · refine aw_bipush (v := (-nI 2)) hK dX5_lose_7 rfl ?_
    exact aw_iret hK dX5_lose_9 h hF
theorem ct_X5_lose {Z : fw_ZT} (hZ : fw_Zok Z) {j0 : Nat} {x1 : Int32} {L : LH} {r9 : Int32} {L9 : LH} {mc ms : Nat} (h : f_X5_lose j0 x1 L = some (r9, L9, mc, ms)) : Ct Z yX5_lose (ws_ yX5_lose cX5_lose 2 (some (.int))) 2 42 [aR (some j0), aI x1] L (some (aI r9)) L9 mc ms :=
  ct_of (own := RX5) hZ (by decide +kernel) rfl (Nat.le_of_ble_eq_true rfl) (fun K _ hK hF hini => w_X5_lose_0 hK hF h)
def f_X5_lacks (j0 : Nat) (x1 : Int32) (x2 : Int32) (x3 : Int32) (L : LH) : Rs Int32 :=
  fw_gR 8 L j0 41 fun r1 =>
  fw_nn r1 fun j2 =>
  fw_rd 103 L j2 x1 fun v3 =>
  if v3 = 0 then (
    some ((nI 1), L, 0, 0)
  ) else (
    fw_gR 8 L j0 42 fun r4 =>
    fw_nn r4 fun j5 =>
    fw_rd 100 L j5 x1 fun v6 =>
    if v6 = x2 then (
      fw_gR 8 L j0 43 fun r7 =>
      fw_nn r7 fun j8 =>
      fw_rd 100 L j8 x1 fun v9 =>
      fw_cl (f_X5_in x3 (nI 0) (v9 - (nI 1)) L) fun v11 L10 =>
      if v11 = 0 then (
        some ((nI 2), L10, 0, 0)
      ) else (
        some ((nI 0), L10, 0, 0)
      )
    ) else (
      some ((nI 3), L, 0, 0)
    )
  )
set_option maxHeartbeats 4000000 in
set_option maxRecDepth 100000 in
theorem w_X5_lacks_0 {K : Kx} {r9 : Int32} {L9 : LH} (hK : Ok K cX5_lacks 4 RX5 1 22) (hF : Fin K (some (.int)) (some (aI r9)) L9) {j0 : Nat} {x1 : Int32} {x2 : Int32} {x3 : Int32} {L : LH} {mc ms : Nat} (h : f_X5_lacks j0 x1 x2 x3 L = some (r9, L9, mc, ms)) : AW K L mc ms 0 [(0, aR (some j0)), (1, aI x1), (2, aI x2), (3, aI x3)] [] := by
  unfold f_X5_lacks at h
  refine aw_aload_n hK 0 dX5_lacks_0 rfl rfl ?_
  refine aw_gR hK fw_c7 41 (by decide) rfl q1234 (fun _ h9 => h9) dX5_lacks_1 h (fun r1 h => ?_)
  refine aw_iload_n hK 1 dX5_lacks_4 rfl rfl ?_
  obtain _ | j2 := r1
  · exact (fw_nn_no h).elim
  replace h := fw_nn_so h
  refine aw_zald hK dX5_lacks_5 h (fun v3 h => ?_)
  refine aw_if_ne (tgt := 13) hK dX5_lacks_6 (by decide) h (fun h => ?_) (fun h => ?_)
  · refine aw_aload_n hK 0 dX5_lacks_13 rfl rfl ?_
    refine aw_gR hK fw_c7 42 (by decide) rfl q1235 (fun _ h9 => h9) dX5_lacks_14 h (fun r4 h => ?_)
    refine aw_iload_n hK 1 dX5_lacks_17 rfl rfl ?_
    obtain _ | j5 := r4
    · exact (fw_nn_no h).elim
    replace h := fw_nn_so h
    refine aw_iald hK dX5_lacks_18 h (fun v6 h => ?_)
    refine aw_iload_n hK 2 dX5_lacks_19 rfl rfl ?_
    refine aw_icmp_eq (tgt := 27) hK dX5_lacks_20 (by decide) h (fun h => ?_) (fun h => ?_)
    · refine aw_iload_n hK 3 dX5_lacks_27 rfl rfl ?_
      refine aw_iconst (v := (nI 0)) hK dX5_lacks_28 rfl ?_
      refine aw_aload_n hK 0 dX5_lacks_29 rfl rfl ?_
      refine aw_gR hK fw_c7 43 (by decide) rfl q1236 (fun _ h9 => h9) dX5_lacks_30 h (fun r7 h => ?_)
      refine aw_iload_n hK 1 dX5_lacks_33 rfl rfl ?_
      obtain _ | j8 := r7
      · exact (fw_nn_no h).elim
      replace h := fw_nn_so h
      refine aw_iald hK dX5_lacks_34 h (fun v9 h => ?_)
      refine aw_iconst (v := (nI 1)) hK dX5_lacks_35 rfl ?_
      refine aw_isub hK dX5_lacks_36 ?_
      refine aw_callS_i (n := 3) hK (fun _ _ _ _ q => ct_X5_in hK.zk q) (lw_S q1343 q1344 q102 q1345) (by decide +kernel) (by decide) rfl rfl (Nat.le_of_ble_eq_true rfl) dX5_lacks_37 h (fun v11 L10 _ _ h => ?_)
      refine aw_if_eq (tgt := 47) hK dX5_lacks_40 (by decide) h (fun h => ?_) (fun h => ?_)
      · refine aw_iconst (v := (nI 2)) hK dX5_lacks_47 rfl ?_
        exact aw_iret hK dX5_lacks_48 h hF
      · refine aw_iconst (v := (nI 0)) hK dX5_lacks_43 rfl ?_
        refine aw_goto (tgt := 48) hK dX5_lacks_44 (by decide) ?_
        exact aw_iret hK dX5_lacks_48 h hF
    · refine aw_iconst (v := (nI 3)) hK dX5_lacks_23 rfl ?_
      refine aw_goto (tgt := 48) hK dX5_lacks_24 (by decide) ?_
      exact aw_iret hK dX5_lacks_48 h hF
  · refine aw_iconst (v := (nI 1)) hK dX5_lacks_9 rfl ?_
    refine aw_goto (tgt := 48) hK dX5_lacks_10 (by decide) ?_
    exact aw_iret hK dX5_lacks_48 h hF
theorem ct_X5_lacks {Z : fw_ZT} (hZ : fw_Zok Z) {j0 : Nat} {x1 : Int32} {x2 : Int32} {x3 : Int32} {L : LH} {r9 : Int32} {L9 : LH} {mc ms : Nat} (h : f_X5_lacks j0 x1 x2 x3 L = some (r9, L9, mc, ms)) : Ct Z yX5_lacks (ws_ yX5_lacks cX5_lacks 4 (some (.int))) 1 22 [aR (some j0), aI x1, aI x2, aI x3] L (some (aI r9)) L9 mc ms :=
  ct_of (own := RX5) hZ (by decide +kernel) rfl (Nat.le_of_ble_eq_true rfl) (fun K _ hK hF hini => w_X5_lacks_0 hK hF h)
def f_X5_keep (j0 : Nat) (x1 : Int32) (x2 : Int32) (x3 : Int32) (L : LH) : Rs Unit :=
  fw_gR 8 L j0 44 fun r1 =>
  fw_gR 8 L j0 42 fun r2 =>
  fw_nn r2 fun j3 =>
  fw_rd 100 L j3 x1 fun v4 =>
  if v4 = 0 then (
    fw_nn r1 fun j12 =>
    fw_wr 100 L j12 (((nI 60) * x1) + x2) x3.toInt8.toInt32 fun L13 =>
    some ((), L13, 0, 0)
  ) else (
    fw_gR 8 L j0 42 fun r5 =>
    fw_nn r5 fun j6 =>
    fw_rd 100 L j6 x1 fun v7 =>
    if v7 = (nI 1) then (
      fw_nn r1 fun j10 =>
      fw_wr 100 L j10 (((nI 60) * x1) + x2) x3.toInt16.toInt32 fun L11 =>
      some ((), L11, 0, 0)
    ) else (
      fw_nn r1 fun j8 =>
      fw_wr 100 L j8 (((nI 60) * x1) + x2) x3 fun L9 =>
      some ((), L9, 0, 0)
    )
  )
set_option maxHeartbeats 4000000 in
set_option maxRecDepth 100000 in
theorem w_X5_keep_0 {K : Kx} {r9 : Unit} {L9 : LH} (hK : Ok K cX5_keep 4 RX5 0 0) (hF : Fin K none none L9) {j0 : Nat} {x1 : Int32} {x2 : Int32} {x3 : Int32} {L : LH} {mc ms : Nat} (h : f_X5_keep j0 x1 x2 x3 L = some (r9, L9, mc, ms)) : AW K L mc ms 0 [(0, aR (some j0)), (1, aI x1), (2, aI x2), (3, aI x3)] [] := by
  unfold f_X5_keep at h
  refine aw_aload_n hK 0 dX5_keep_0 rfl rfl ?_
  refine aw_gR hK fw_c7 44 (by decide) rfl q1237 (fun _ h9 => h9) dX5_keep_1 h (fun r1 h => ?_)
  refine aw_bipush (v := (nI 60)) hK dX5_keep_4 rfl ?_
  refine aw_iload_n hK 1 dX5_keep_6 rfl rfl ?_
  refine aw_imul hK dX5_keep_7 ?_
  refine aw_iload_n hK 2 dX5_keep_8 rfl rfl ?_
  refine aw_iadd hK dX5_keep_9 ?_
  refine aw_aload_n hK 0 dX5_keep_10 rfl rfl ?_
  refine aw_gR hK fw_c7 42 (by decide) rfl q1235 (fun _ h9 => h9) dX5_keep_11 h (fun r2 h => ?_)
  refine aw_iload_n hK 1 dX5_keep_14 rfl rfl ?_
  obtain _ | j3 := r2
  · exact (fw_nn_no h).elim
  replace h := fw_nn_so h
  refine aw_iald hK dX5_keep_15 h (fun v4 h => ?_)
  refine aw_if_ne (tgt := 24) hK dX5_keep_16 (by decide) h (fun h => ?_) (fun h => ?_)
  · refine aw_aload_n hK 0 dX5_keep_24 rfl rfl ?_
    refine aw_gR hK fw_c7 42 (by decide) rfl q1235 (fun _ h9 => h9) dX5_keep_25 h (fun r5 h => ?_)
    refine aw_iload_n hK 1 dX5_keep_28 rfl rfl ?_
    obtain _ | j6 := r5
    · exact (fw_nn_no h).elim
    replace h := fw_nn_so h
    refine aw_iald hK dX5_keep_29 h (fun v7 h => ?_)
    refine aw_iconst (v := (nI 1)) hK dX5_keep_30 rfl ?_
    refine aw_icmp_ne (tgt := 39) hK dX5_keep_31 (by decide) h (fun h => ?_) (fun h => ?_)
    · refine aw_iload_n hK 3 dX5_keep_39 rfl rfl ?_
      obtain _ | j8 := r1
      · exact (fw_nn_no h).elim
      replace h := fw_nn_so h
      refine aw_iast hK dX5_keep_40 h (fun L9 h => ?_)
      exact aw_vret hK dX5_keep_41 h hF
    · refine aw_iload_n hK 3 dX5_keep_34 rfl rfl ?_
      refine aw_i2s hK dX5_keep_35 ?_
      refine aw_goto (tgt := 40) hK dX5_keep_36 (by decide) ?_
      obtain _ | j10 := r1
      · exact (fw_nn_no h).elim
      replace h := fw_nn_so h
      refine aw_iast hK dX5_keep_40 h (fun L11 h => ?_)
      exact aw_vret hK dX5_keep_41 h hF
  · refine aw_iload_n hK 3 dX5_keep_19 rfl rfl ?_
    refine aw_i2b hK dX5_keep_20 ?_
    refine aw_goto (tgt := 40) hK dX5_keep_21 (by decide) ?_
    obtain _ | j12 := r1
    · exact (fw_nn_no h).elim
    replace h := fw_nn_so h
    refine aw_iast hK dX5_keep_40 h (fun L13 h => ?_)
    exact aw_vret hK dX5_keep_41 h hF
theorem ct_X5_keep {Z : fw_ZT} (hZ : fw_Zok Z) {j0 : Nat} {x1 : Int32} {x2 : Int32} {x3 : Int32} {L : LH} {r9 : Unit} {L9 : LH} {mc ms : Nat} (h : f_X5_keep j0 x1 x2 x3 L = some (r9, L9, mc, ms)) : Ct Z yX5_keep (ws_ yX5_keep cX5_keep 4 none) 0 0 [aR (some j0), aI x1, aI x2, aI x3] L none L9 mc ms :=
  ct_of (own := RX5) hZ (by decide +kernel) rfl (Nat.le_of_ble_eq_true rfl) (fun K _ hK hF hini => w_X5_keep_0 hK hF h)
def f_X5_get (j0 : Nat) (x1 : Int32) (x2 : Int32) (x3 : Int32) (L : LH) : Rs Int32 :=
  fw_cl (f_X5_isSheet x1 L) fun v2 L1 =>
  if v2 = 0 then (
    some ((-2147483648 : Int32), L1, 0, 0)
  ) else (
    fw_cl (f_X5_in x2 (nI 0) (nI 2) L1) fun v4 L3 =>
    if v4 = 0 then (
      some ((-2147483648 : Int32), L3, 0, 0)
    ) else (
      fw_is 8 L3 j0 <|
      fw_cl (f_X5_lacks j0 x1 x2 x3 L3) fun v6 L5 =>
      if v6 ≤ 0 then (
        fw_gR 8 L5 j0 44 fun r7 =>
        fw_nn r7 fun j8 =>
        fw_rd 100 L5 j8 (((nI 60) * x1) + x3) fun v9 =>
        some (v9, L5, 0, 0)
      ) else (
        fw_pI 8 L5 j0 46 v6 fun L10 =>
        some ((-2147483648 : Int32), L10, 0, 0)
      )
    )
  )
set_option maxHeartbeats 4000000 in
set_option maxRecDepth 100000 in
theorem w_X5_get_0 {K : Kx} {r9 : Int32} {L9 : LH} (hK : Ok K cX5_get 5 RX5 2 45) (hF : Fin K (some (.int)) (some (aI r9)) L9) {j0 : Nat} {x1 : Int32} {x2 : Int32} {x3 : Int32} {L : LH} {mc ms : Nat} (h : f_X5_get j0 x1 x2 x3 L = some (r9, L9, mc, ms)) : AW K L mc ms 0 [(0, aR (some j0)), (1, aI x1), (2, aI x2), (3, aI x3)] [] := by
  unfold f_X5_get at h
  refine aw_iload_n hK 1 dX5_get_0 rfl rfl ?_
  refine aw_callS_i (n := 1) hK (fun _ _ _ _ q => ct_X5_isSheet hK.zk q) (lw_S q1434 q1435 q102 q1436) (by decide +kernel) (by decide) rfl rfl (Nat.le_of_ble_eq_true rfl) dX5_get_1 h (fun v2 L1 _ _ h => ?_)
  refine aw_if_eq (tgt := 16) hK dX5_get_4 (by decide) h (fun h => ?_) (fun h => ?_)
  · refine aw_ldc_w (v := -2147483648) hK q1681 dX5_get_16 ?_
    exact aw_iret hK dX5_get_19 h hF
  · refine aw_iload_n hK 2 dX5_get_7 rfl rfl ?_
    refine aw_iconst (v := (nI 0)) hK dX5_get_8 rfl ?_
    refine aw_iconst (v := (nI 2)) hK dX5_get_9 rfl ?_
    refine aw_callS_i (n := 3) hK (fun _ _ _ _ q => ct_X5_in hK.zk q) (lw_S q1343 q1344 q102 q1345) (by decide +kernel) (by decide) rfl rfl (Nat.le_of_ble_eq_true rfl) dX5_get_10 h (fun v4 L3 _ _ h => ?_)
    refine aw_if_ne (tgt := 20) hK dX5_get_13 (by decide) h (fun h => ?_) (fun h => ?_)
    · refine aw_aload_n hK 0 dX5_get_20 rfl rfl ?_
      refine aw_iload_n hK 1 dX5_get_21 rfl rfl ?_
      refine aw_iload_n hK 2 dX5_get_22 rfl rfl ?_
      refine aw_iload_n hK 3 dX5_get_23 rfl rfl ?_
      obtain ⟨hj, h⟩ := fw_is_h h
      refine aw_callV_i (n := 3) hK fw_c7 hj (fun _ _ _ _ q => ct_X5_lacks hK.zk q) (lw_V q1669 q1671 qs87 q102 q1672) (by decide +kernel) (by decide) rfl rfl (Nat.le_of_ble_eq_true rfl) dX5_get_24 h (fun v6 L5 _ _ h => ?_)
      refine aw_istore (lv' := [(4, aI v6), (0, aR (some j0)), (1, aI x1), (2, aI x2), (3, aI x3)]) hK dX5_get_27 (by decide) rfl ?_
      refine aw_iload hK 0 dX5_get_29 rfl ?_
      refine aw_if_le (tgt := 44) hK dX5_get_31 (by decide) h (fun h => ?_) (fun h => ?_)
      · refine aw_aload_n hK 1 dX5_get_44 rfl rfl ?_
        refine aw_gR hK fw_c7 44 (by decide) rfl q1237 (fun _ h9 => h9) dX5_get_45 h (fun r7 h => ?_)
        refine aw_bipush (v := (nI 60)) hK dX5_get_48 rfl ?_
        refine aw_iload_n hK 2 dX5_get_50 rfl rfl ?_
        refine aw_imul hK dX5_get_51 ?_
        refine aw_iload_n hK 4 dX5_get_52 rfl rfl ?_
        refine aw_iadd hK dX5_get_53 ?_
        obtain _ | j8 := r7
        · exact (fw_nn_no h).elim
        replace h := fw_nn_so h
        refine aw_iald hK dX5_get_54 h (fun v9 h => ?_)
        exact aw_iret hK dX5_get_55 h hF
      · refine aw_aload_n hK 1 dX5_get_34 rfl rfl ?_
        refine aw_iload hK 0 dX5_get_35 rfl ?_
        refine aw_pI hK fw_c7 46 (by decide) rfl q1239 (fun _ h9 => h9) rfl rfl rfl dX5_get_37 h (fun L10 h => ?_)
        refine aw_ldc_w (v := -2147483648) hK q1681 dX5_get_40 ?_
        exact aw_iret hK dX5_get_43 h hF
    · refine aw_ldc_w (v := -2147483648) hK q1681 dX5_get_16 ?_
      exact aw_iret hK dX5_get_19 h hF
theorem ct_X5_get {Z : fw_ZT} (hZ : fw_Zok Z) {j0 : Nat} {x1 : Int32} {x2 : Int32} {x3 : Int32} {L : LH} {r9 : Int32} {L9 : LH} {mc ms : Nat} (h : f_X5_get j0 x1 x2 x3 L = some (r9, L9, mc, ms)) : Ct Z yX5_get (ws_ yX5_get cX5_get 5 (some (.int))) 2 45 [aR (some j0), aI x1, aI x2, aI x3] L (some (aI r9)) L9 mc ms :=
  ct_of (own := RX5) hZ (by decide +kernel) rfl (Nat.le_of_ble_eq_true rfl) (fun K _ hK hF hini => w_X5_get_0 hK hF h)
def f_X5_copy_35 (j0 : Nat) (L : LH) : Rs Int32 :=
  fw_is 8 L j0 <|
  fw_cl (f_X5_meets j0 (nI 1) L) fun v2 L1 =>
  some (v2, L1, 0, 0)
def f_X5_copy_111 (j0 : Nat) (L : LH) : Rs Int32 :=
  fw_is 8 L j0 <|
  fw_cl (f_X5_meets j0 (nI 2) L) fun v2 L1 =>
  some (v2, L1, 0, 0)
def f_X5_copy_157 : Nat → Nat → Int32 → Int32 → Int32 → Int32 → LH → Rs Int32
  | 0, _, _, _, _, _, _ => none
  | n + 1, j0, x3, x4, x5, x6, L =>
    if x5 ≤ x6 then (
      some ((nI 1), L, 0, 0)
    ) else (
      fw_gR 8 L j0 44 fun r1 =>
      fw_gR 8 L j0 45 fun r2 =>
      fw_nn r2 fun j3 =>
      fw_rd 100 L j3 x6 fun v4 =>
      fw_nn r1 fun j5 =>
      fw_wr 100 L j5 ((((nI 60) * x3) + x4) + x6) v4 fun L6 =>
      f_X5_copy_157 n j0 x3 x4 x5 (x6 + (nI 1)) L6
    )
def f_X5_copy_120 : Nat → Nat → Int32 → Int32 → Int32 → Int32 → Int32 → Int32 → LH → Rs Int32
  | 0, _, _, _, _, _, _, _, _ => none
  | n + 1, j0, x1, x2, x3, x4, x5, x6, L =>
    if x5 ≤ x6 then (
      f_X5_copy_157 fw_fuel j0 x3 x4 x5 (nI 0) L
    ) else (
      fw_gR 8 L j0 45 fun r1 =>
      fw_gR 8 L j0 44 fun r2 =>
      fw_nn r2 fun j3 =>
      fw_rd 100 L j3 ((((nI 60) * x1) + x2) + x6) fun v4 =>
      fw_nn r1 fun j5 =>
      fw_wr 100 L j5 x6 v4 fun L6 =>
      f_X5_copy_120 n j0 x1 x2 x3 x4 x5 (x6 + (nI 1)) L6
    )
def f_X5_copy (j0 : Nat) (x1 : Int32) (x2 : Int32) (x3 : Int32) (x4 : Int32) (x5 : Int32) (L : LH) : Rs Int32 :=
  fw_cl (f_X5_isSheet x1 L) fun v2 L1 =>
  if v2 = 0 then (
    some ((-nI 2), L1, 0, 0)
  ) else (
    fw_cl (f_X5_isSheet x3 L1) fun v4 L3 =>
    if v4 = 0 then (
      some ((-nI 2), L3, 0, 0)
    ) else (
      fw_gR 8 L3 j0 41 fun r5 =>
      fw_nn r5 fun j6 =>
      fw_rd 103 L3 j6 x1 fun v7 =>
      if v7 = 0 then (
        f_X5_copy_35 j0 L3
      ) else (
        fw_gR 8 L3 j0 41 fun r8 =>
        fw_nn r8 fun j9 =>
        fw_rd 103 L3 j9 x3 fun v10 =>
        if v10 = 0 then (
          f_X5_copy_35 j0 L3
        ) else (
          fw_gR 8 L3 j0 42 fun r11 =>
          fw_nn r11 fun j12 =>
          fw_rd 100 L3 j12 x1 fun v13 =>
          fw_gR 8 L3 j0 42 fun r14 =>
          fw_nn r14 fun j15 =>
          fw_rd 100 L3 j15 x3 fun v16 =>
          if v13 = v16 then (
            if x2 < 0 then (
              f_X5_copy_111 j0 L3
            ) else (
              if x4 < 0 then (
                f_X5_copy_111 j0 L3
              ) else (
                if x5 < 0 then (
                  f_X5_copy_111 j0 L3
                ) else (
                  fw_gR 8 L3 j0 43 fun r17 =>
                  fw_nn r17 fun j18 =>
                  fw_rd 100 L3 j18 x1 fun v19 =>
                  if v19.toInt64 < (x2.toInt64 + x5.toInt64) then (
                    f_X5_copy_111 j0 L3
                  ) else (
                    fw_gR 8 L3 j0 43 fun r20 =>
                    fw_nn r20 fun j21 =>
                    fw_rd 100 L3 j21 x3 fun v22 =>
                    if (x4.toInt64 + x5.toInt64) ≤ v22.toInt64 then (
                      f_X5_copy_120 fw_fuel j0 x1 x2 x3 x4 x5 (nI 0) L3
                    ) else (
                      f_X5_copy_111 j0 L3
                    )
                  )
                )
              )
            )
          ) else (
            fw_is 8 L3 j0 <|
            fw_cl (f_X5_meets j0 (nI 4) L3) fun v24 L23 =>
            some (v24, L23, 0, 0)
          )
        )
      )
    )
  )
set_option maxHeartbeats 4000000 in
set_option maxRecDepth 100000 in
theorem w_X5_copy_35 {K : Kx} {r9 : Int32} {L9 : LH} (hK : Ok K cX5_copy 7 RX5 2 42) (hF : Fin K (some (.int)) (some (aI r9)) L9) {j0 : Nat} {L : LH} {mc ms : Nat} (h : f_X5_copy_35 j0 L = some (r9, L9, mc, ms)) : AW K L mc ms 35 [(0, aR (some j0))] [] := by
  unfold f_X5_copy_35 at h
  refine aw_aload_n hK 0 dX5_copy_35 rfl rfl ?_
  refine aw_iconst (v := (nI 1)) hK dX5_copy_36 rfl ?_
  obtain ⟨hj, h⟩ := fw_is_h h
  refine aw_callV_i (n := 1) hK fw_c7 hj (fun _ _ _ _ q => ct_X5_meets hK.zk q) (lw_V q1437 q1439 qs54 q102 q1440) (by decide +kernel) (by decide) rfl rfl (Nat.le_of_ble_eq_true rfl) dX5_copy_37 h (fun v2 L1 _ _ h => ?_)
  exact aw_iret hK dX5_copy_40 h hF
set_option maxHeartbeats 4000000 in
set_option maxRecDepth 100000 in
theorem w_X5_copy_111 {K : Kx} {r9 : Int32} {L9 : LH} (hK : Ok K cX5_copy 7 RX5 2 42) (hF : Fin K (some (.int)) (some (aI r9)) L9) {j0 : Nat} {L : LH} {mc ms : Nat} (h : f_X5_copy_111 j0 L = some (r9, L9, mc, ms)) : AW K L mc ms 111 [(0, aR (some j0))] [] := by
  unfold f_X5_copy_111 at h
  refine aw_aload_n hK 0 dX5_copy_111 rfl rfl ?_
  refine aw_iconst (v := (nI 2)) hK dX5_copy_112 rfl ?_
  obtain ⟨hj, h⟩ := fw_is_h h
  refine aw_callV_i (n := 1) hK fw_c7 hj (fun _ _ _ _ q => ct_X5_meets hK.zk q) (lw_V q1437 q1439 qs54 q102 q1440) (by decide +kernel) (by decide) rfl rfl (Nat.le_of_ble_eq_true rfl) dX5_copy_113 h (fun v2 L1 _ _ h => ?_)
  exact aw_iret hK dX5_copy_116 h hF
set_option maxHeartbeats 4000000 in
set_option maxRecDepth 100000 in
theorem w_X5_copy_157 {K : Kx} {r9 : Int32} {L9 : LH} (hK : Ok K cX5_copy 7 RX5 2 42) (hF : Fin K (some (.int)) (some (aI r9)) L9) : ∀ {n : Nat} {j0 : Nat} {x3 : Int32} {x4 : Int32} {x5 : Int32} {x6 : Int32} {L : LH} {mc ms : Nat}, f_X5_copy_157 n j0 x3 x4 x5 x6 L = some (r9, L9, mc, ms) → AW K L mc ms 157 [(0, aR (some j0)), (3, aI x3), (4, aI x4), (5, aI x5), (6, aI x6)] [] := by
  intro n
  induction n with
  | zero =>
    intro j0 x3 x4 x5 x6 L mc ms h
    have h : (none : Rs Int32) = some (r9, L9, mc, ms) := h
    cases h
  | succ n ih =>
    intro j0 x3 x4 x5 x6 L mc ms h
    unfold f_X5_copy_157 at h
    refine aw_iload hK 4 dX5_copy_157 rfl ?_
    refine aw_iload hK 3 dX5_copy_159 rfl ?_
    refine aw_icmp_ge (tgt := 192) hK dX5_copy_161 (by decide) h (fun h => ?_) (fun h => ?_)
    · refine aw_iconst (v := (nI 1)) hK dX5_copy_192 rfl ?_
      exact aw_iret hK dX5_copy_193 h hF
    · refine aw_aload_n hK 0 dX5_copy_164 rfl rfl ?_
      refine aw_gR hK fw_c7 44 (by decide) rfl q1237 (fun _ h9 => h9) dX5_copy_165 h (fun r1 h => ?_)
      refine aw_bipush (v := (nI 60)) hK dX5_copy_168 rfl ?_
      refine aw_iload_n hK 1 dX5_copy_170 rfl rfl ?_
      refine aw_imul hK dX5_copy_171 ?_
      refine aw_iload hK 2 dX5_copy_172 rfl ?_
      refine aw_iadd hK dX5_copy_174 ?_
      refine aw_iload hK 4 dX5_copy_175 rfl ?_
      refine aw_iadd hK dX5_copy_177 ?_
      refine aw_aload_n hK 0 dX5_copy_178 rfl rfl ?_
      refine aw_gR hK fw_c7 45 (by decide) rfl q1238 (fun _ h9 => h9) dX5_copy_179 h (fun r2 h => ?_)
      refine aw_iload hK 4 dX5_copy_182 rfl ?_
      obtain _ | j3 := r2
      · exact (fw_nn_no h).elim
      replace h := fw_nn_so h
      refine aw_iald hK dX5_copy_184 h (fun v4 h => ?_)
      obtain _ | j5 := r1
      · exact (fw_nn_no h).elim
      replace h := fw_nn_so h
      refine aw_iast hK dX5_copy_185 h (fun L6 h => ?_)
      refine aw_iinc (v := (x6 + (nI 1))) (lv' := [(6, aI (x6 + (nI 1))), (0, aR (some j0)), (3, aI x3), (4, aI x4), (5, aI x5)]) hK 4 dX5_copy_186 rfl rfl (by decide) rfl ?_
      refine aw_goto (tgt := 157) hK dX5_copy_189 (by decide) ?_
      exact aw_sub [1, 2, 3, 4, 0] rfl (ih h)
set_option maxHeartbeats 4000000 in
set_option maxRecDepth 100000 in
theorem w_X5_copy_120 {K : Kx} {r9 : Int32} {L9 : LH} (hK : Ok K cX5_copy 7 RX5 2 42) (hF : Fin K (some (.int)) (some (aI r9)) L9) : ∀ {n : Nat} {j0 : Nat} {x1 : Int32} {x2 : Int32} {x3 : Int32} {x4 : Int32} {x5 : Int32} {x6 : Int32} {L : LH} {mc ms : Nat}, f_X5_copy_120 n j0 x1 x2 x3 x4 x5 x6 L = some (r9, L9, mc, ms) → AW K L mc ms 120 [(0, aR (some j0)), (1, aI x1), (2, aI x2), (3, aI x3), (4, aI x4), (5, aI x5), (6, aI x6)] [] := by
  intro n
  induction n with
  | zero =>
    intro j0 x1 x2 x3 x4 x5 x6 L mc ms h
    have h : (none : Rs Int32) = some (r9, L9, mc, ms) := h
    cases h
  | succ n ih =>
    intro j0 x1 x2 x3 x4 x5 x6 L mc ms h
    unfold f_X5_copy_120 at h
    refine aw_iload hK 6 dX5_copy_120 rfl ?_
    refine aw_iload hK 5 dX5_copy_122 rfl ?_
    refine aw_icmp_ge (tgt := 154) hK dX5_copy_124 (by decide) h (fun h => ?_) (fun h => ?_)
    · refine aw_iconst (v := (nI 0)) hK dX5_copy_154 rfl ?_
      refine aw_istore (lv' := [(6, aI (nI 0)), (0, aR (some j0)), (1, aI x1), (2, aI x2), (3, aI x3), (4, aI x4), (5, aI x5)]) hK dX5_copy_155 (by decide) rfl ?_
      exact aw_sub [1, 4, 5, 6, 0] rfl (w_X5_copy_157 hK hF h)
    · refine aw_aload_n hK 0 dX5_copy_127 rfl rfl ?_
      refine aw_gR hK fw_c7 45 (by decide) rfl q1238 (fun _ h9 => h9) dX5_copy_128 h (fun r1 h => ?_)
      refine aw_iload hK 6 dX5_copy_131 rfl ?_
      refine aw_aload_n hK 0 dX5_copy_133 rfl rfl ?_
      refine aw_gR hK fw_c7 44 (by decide) rfl q1237 (fun _ h9 => h9) dX5_copy_134 h (fun r2 h => ?_)
      refine aw_bipush (v := (nI 60)) hK dX5_copy_137 rfl ?_
      refine aw_iload_n hK 1 dX5_copy_139 rfl rfl ?_
      refine aw_imul hK dX5_copy_140 ?_
      refine aw_iload_n hK 2 dX5_copy_141 rfl rfl ?_
      refine aw_iadd hK dX5_copy_142 ?_
      refine aw_iload hK 6 dX5_copy_143 rfl ?_
      refine aw_iadd hK dX5_copy_145 ?_
      obtain _ | j3 := r2
      · exact (fw_nn_no h).elim
      replace h := fw_nn_so h
      refine aw_iald hK dX5_copy_146 h (fun v4 h => ?_)
      obtain _ | j5 := r1
      · exact (fw_nn_no h).elim
      replace h := fw_nn_so h
      refine aw_iast hK dX5_copy_147 h (fun L6 h => ?_)
      refine aw_iinc (v := (x6 + (nI 1))) (lv' := [(6, aI (x6 + (nI 1))), (0, aR (some j0)), (1, aI x1), (2, aI x2), (3, aI x3), (4, aI x4), (5, aI x5)]) hK 6 dX5_copy_148 rfl rfl (by decide) rfl ?_
      refine aw_goto (tgt := 120) hK dX5_copy_151 (by decide) ?_
      exact aw_sub [1, 2, 3, 4, 5, 6, 0] rfl (ih h)
set_option maxHeartbeats 4000000 in
set_option maxRecDepth 100000 in
theorem w_X5_copy_0 {K : Kx} {r9 : Int32} {L9 : LH} (hK : Ok K cX5_copy 7 RX5 2 42) (hF : Fin K (some (.int)) (some (aI r9)) L9) {j0 : Nat} {x1 : Int32} {x2 : Int32} {x3 : Int32} {x4 : Int32} {x5 : Int32} {L : LH} {mc ms : Nat} (h : f_X5_copy j0 x1 x2 x3 x4 x5 L = some (r9, L9, mc, ms)) : AW K L mc ms 0 [(0, aR (some j0)), (1, aI x1), (2, aI x2), (3, aI x3), (4, aI x4), (5, aI x5)] [] := by
  unfold f_X5_copy at h
  refine aw_iload_n hK 1 dX5_copy_0 rfl rfl ?_
  refine aw_callS_i (n := 1) hK (fun _ _ _ _ q => ct_X5_isSheet hK.zk q) (lw_S q1434 q1435 q102 q1436) (by decide +kernel) (by decide) rfl rfl (Nat.le_of_ble_eq_true rfl) dX5_copy_1 h (fun v2 L1 _ _ h => ?_)
  refine aw_if_eq (tgt := 14) hK dX5_copy_4 (by decide) h (fun h => ?_) (fun h => ?_)
  · refine aw_bipush (v := (-nI 2)) hK dX5_copy_14 rfl ?_
    exact aw_iret hK dX5_copy_16 h hF
  · refine aw_iload_n hK 3 dX5_copy_7 rfl rfl ?_
    refine aw_callS_i (n := 1) hK (fun _ _ _ _ q => ct_X5_isSheet hK.zk q) (lw_S q1434 q1435 q102 q1436) (by decide +kernel) (by decide) rfl rfl (Nat.le_of_ble_eq_true rfl) dX5_copy_8 h (fun v4 L3 _ _ h => ?_)
    refine aw_if_ne (tgt := 17) hK dX5_copy_11 (by decide) h (fun h => ?_) (fun h => ?_)
    · refine aw_aload_n hK 0 dX5_copy_17 rfl rfl ?_
      refine aw_gR hK fw_c7 41 (by decide) rfl q1234 (fun _ h9 => h9) dX5_copy_18 h (fun r5 h => ?_)
      refine aw_iload_n hK 1 dX5_copy_21 rfl rfl ?_
      obtain _ | j6 := r5
      · exact (fw_nn_no h).elim
      replace h := fw_nn_so h
      refine aw_zald hK dX5_copy_22 h (fun v7 h => ?_)
      refine aw_if_eq (tgt := 35) hK dX5_copy_23 (by decide) h (fun h => ?_) (fun h => ?_)
      · exact aw_sub [0] rfl (w_X5_copy_35 hK hF h)
      · refine aw_aload_n hK 0 dX5_copy_26 rfl rfl ?_
        refine aw_gR hK fw_c7 41 (by decide) rfl q1234 (fun _ h9 => h9) dX5_copy_27 h (fun r8 h => ?_)
        refine aw_iload_n hK 3 dX5_copy_30 rfl rfl ?_
        obtain _ | j9 := r8
        · exact (fw_nn_no h).elim
        replace h := fw_nn_so h
        refine aw_zald hK dX5_copy_31 h (fun v10 h => ?_)
        refine aw_if_ne (tgt := 41) hK dX5_copy_32 (by decide) h (fun h => ?_) (fun h => ?_)
        · refine aw_aload_n hK 0 dX5_copy_41 rfl rfl ?_
          refine aw_gR hK fw_c7 42 (by decide) rfl q1235 (fun _ h9 => h9) dX5_copy_42 h (fun r11 h => ?_)
          refine aw_iload_n hK 1 dX5_copy_45 rfl rfl ?_
          obtain _ | j12 := r11
          · exact (fw_nn_no h).elim
          replace h := fw_nn_so h
          refine aw_iald hK dX5_copy_46 h (fun v13 h => ?_)
          refine aw_aload_n hK 0 dX5_copy_47 rfl rfl ?_
          refine aw_gR hK fw_c7 42 (by decide) rfl q1235 (fun _ h9 => h9) dX5_copy_48 h (fun r14 h => ?_)
          refine aw_iload_n hK 3 dX5_copy_51 rfl rfl ?_
          obtain _ | j15 := r14
          · exact (fw_nn_no h).elim
          replace h := fw_nn_so h
          refine aw_iald hK dX5_copy_52 h (fun v16 h => ?_)
          refine aw_icmp_eq (tgt := 62) hK dX5_copy_53 (by decide) h (fun h => ?_) (fun h => ?_)
          · refine aw_iload_n hK 2 dX5_copy_62 rfl rfl ?_
            refine aw_if_lt (tgt := 111) hK dX5_copy_63 (by decide) h (fun h => ?_) (fun h => ?_)
            · exact aw_sub [0] rfl (w_X5_copy_111 hK hF h)
            · refine aw_iload hK 4 dX5_copy_66 rfl ?_
              refine aw_if_lt (tgt := 111) hK dX5_copy_68 (by decide) h (fun h => ?_) (fun h => ?_)
              · exact aw_sub [0] rfl (w_X5_copy_111 hK hF h)
              · refine aw_iload hK 5 dX5_copy_71 rfl ?_
                refine aw_if_lt (tgt := 111) hK dX5_copy_73 (by decide) h (fun h => ?_) (fun h => ?_)
                · exact aw_sub [0] rfl (w_X5_copy_111 hK hF h)
                · refine aw_iload_n hK 2 dX5_copy_76 rfl rfl ?_
                  refine aw_i2l hK dX5_copy_77 ?_
                  refine aw_iload hK 5 dX5_copy_78 rfl ?_
                  refine aw_i2l hK dX5_copy_80 ?_
                  refine aw_ladd hK dX5_copy_81 ?_
                  refine aw_aload_n hK 0 dX5_copy_82 rfl rfl ?_
                  refine aw_gR hK fw_c7 43 (by decide) rfl q1236 (fun _ h9 => h9) dX5_copy_83 h (fun r17 h => ?_)
                  refine aw_iload_n hK 1 dX5_copy_86 rfl rfl ?_
                  obtain _ | j18 := r17
                  · exact (fw_nn_no h).elim
                  replace h := fw_nn_so h
                  refine aw_iald hK dX5_copy_87 h (fun v19 h => ?_)
                  refine aw_i2l hK dX5_copy_88 ?_
                  refine aw_lcmp_gt (tgt := 111) hK dX5_copy_89 dX5_copy_90 (by decide) h (fun h => ?_) (fun h => ?_)
                  · exact aw_sub [0] rfl (w_X5_copy_111 hK hF h)
                  · refine aw_iload hK 4 dX5_copy_93 rfl ?_
                    refine aw_i2l hK dX5_copy_95 ?_
                    refine aw_iload hK 5 dX5_copy_96 rfl ?_
                    refine aw_i2l hK dX5_copy_98 ?_
                    refine aw_ladd hK dX5_copy_99 ?_
                    refine aw_aload_n hK 0 dX5_copy_100 rfl rfl ?_
                    refine aw_gR hK fw_c7 43 (by decide) rfl q1236 (fun _ h9 => h9) dX5_copy_101 h (fun r20 h => ?_)
                    refine aw_iload_n hK 3 dX5_copy_104 rfl rfl ?_
                    obtain _ | j21 := r20
                    · exact (fw_nn_no h).elim
                    replace h := fw_nn_so h
                    refine aw_iald hK dX5_copy_105 h (fun v22 h => ?_)
                    refine aw_i2l hK dX5_copy_106 ?_
                    refine aw_lcmp_le (tgt := 117) hK dX5_copy_107 dX5_copy_108 (by decide) h (fun h => ?_) (fun h => ?_)
                    · refine aw_iconst (v := (nI 0)) hK dX5_copy_117 rfl ?_
                      refine aw_istore (lv' := [(6, aI (nI 0)), (0, aR (some j0)), (1, aI x1), (2, aI x2), (3, aI x3), (4, aI x4), (5, aI x5)]) hK dX5_copy_118 (by decide) rfl ?_
                      exact aw_sub [1, 2, 3, 4, 5, 6, 0] rfl (w_X5_copy_120 hK hF h)
                    · exact aw_sub [0] rfl (w_X5_copy_111 hK hF h)
          · refine aw_aload_n hK 0 dX5_copy_56 rfl rfl ?_
            refine aw_iconst (v := (nI 4)) hK dX5_copy_57 rfl ?_
            obtain ⟨hj, h⟩ := fw_is_h h
            refine aw_callV_i (n := 1) hK fw_c7 hj (fun _ _ _ _ q => ct_X5_meets hK.zk q) (lw_V q1437 q1439 qs54 q102 q1440) (by decide +kernel) (by decide) rfl rfl (Nat.le_of_ble_eq_true rfl) dX5_copy_58 h (fun v24 L23 _ _ h => ?_)
            exact aw_iret hK dX5_copy_61 h hF
        · exact aw_sub [0] rfl (w_X5_copy_35 hK hF h)
    · refine aw_bipush (v := (-nI 2)) hK dX5_copy_14 rfl ?_
      exact aw_iret hK dX5_copy_16 h hF
theorem ct_X5_copy {Z : fw_ZT} (hZ : fw_Zok Z) {j0 : Nat} {x1 : Int32} {x2 : Int32} {x3 : Int32} {x4 : Int32} {x5 : Int32} {L : LH} {r9 : Int32} {L9 : LH} {mc ms : Nat} (h : f_X5_copy j0 x1 x2 x3 x4 x5 L = some (r9, L9, mc, ms)) : Ct Z yX5_copy (ws_ yX5_copy cX5_copy 7 (some (.int))) 2 42 [aR (some j0), aI x1, aI x2, aI x3, aI x4, aI x5] L (some (aI r9)) L9 mc ms :=
  ct_of (own := RX5) hZ (by decide +kernel) rfl (Nat.le_of_ble_eq_true rfl) (fun K _ hK hF hini => w_X5_copy_0 hK hF h)
def f_X5_isText (x0 : Int32) (L : LH) : Rs Int32 :=
  fw_cl (f_X5_in x0 (nI 0) (nI 3) L) fun v2 L1 =>
  fw_bo v2 <|
  some (v2, L1, 0, 0)
set_option maxHeartbeats 4000000 in
set_option maxRecDepth 100000 in
theorem w_X5_isText_0 {K : Kx} {r9 : Int32} {L9 : LH} (hK : Ok K cX5_isText 1 RX5 1 22) (hF : Fin K (some (.boolean)) (some (aI r9)) L9) {x0 : Int32} {L : LH} {mc ms : Nat} (h : f_X5_isText x0 L = some (r9, L9, mc, ms)) : AW K L mc ms 0 [(0, aI x0)] [] := by
  unfold f_X5_isText at h
  refine aw_iload_n hK 0 dX5_isText_0 rfl rfl ?_
  refine aw_iconst (v := (nI 0)) hK dX5_isText_1 rfl ?_
  refine aw_iconst (v := (nI 3)) hK dX5_isText_2 rfl ?_
  refine aw_callS_i (n := 3) hK (fun _ _ _ _ q => ct_X5_in hK.zk q) (lw_S q1343 q1344 q102 q1345) (by decide +kernel) (by decide) rfl rfl (Nat.le_of_ble_eq_true rfl) dX5_isText_3 h (fun v2 L1 _ _ h => ?_)
  obtain ⟨hbo, h⟩ := fw_bo_h h
  exact aw_zret hK hbo dX5_isText_6 h hF
theorem ct_X5_isText {Z : fw_ZT} (hZ : fw_Zok Z) {x0 : Int32} {L : LH} {r9 : Int32} {L9 : LH} {mc ms : Nat} (h : f_X5_isText x0 L = some (r9, L9, mc, ms)) : Ct Z yX5_isText (ws_ yX5_isText cX5_isText 1 (some (.boolean))) 1 22 [aI x0] L (some (aI r9)) L9 mc ms :=
  ct_of (own := RX5) hZ (by decide +kernel) rfl (Nat.le_of_ble_eq_true rfl) (fun K _ hK hF hini => w_X5_isText_0 hK hF h)
def f_X5_wipe (j0 : Nat) (x1 : Int32) (L : LH) : Rs Int32 :=
  fw_cl (f_X5_isText x1 L) fun v2 L1 =>
  if v2 = 0 then (
    some ((-nI 2), L1, 0, 0)
  ) else (
    fw_gR 8 L1 j0 0 fun r3 =>
    fw_nn r3 fun j4 =>
    fw_rd 100 L1 j4 x1 fun v5 =>
    fw_gR 8 L1 j0 0 fun r6 =>
    fw_nn r6 fun j7 =>
    fw_wr 100 L1 j7 x1 (nI 0) fun L8 =>
    some (v5, L8, 0, 0)
  )
set_option maxHeartbeats 4000000 in
set_option maxRecDepth 100000 in
theorem w_X5_wipe_0 {K : Kx} {r9 : Int32} {L9 : LH} (hK : Ok K cX5_wipe 3 RX5 2 42) (hF : Fin K (some (.int)) (some (aI r9)) L9) {j0 : Nat} {x1 : Int32} {L : LH} {mc ms : Nat} (h : f_X5_wipe j0 x1 L = some (r9, L9, mc, ms)) : AW K L mc ms 0 [(0, aR (some j0)), (1, aI x1)] [] := by
  unfold f_X5_wipe at h
  refine aw_iload_n hK 1 dX5_wipe_0 rfl rfl ?_
  refine aw_callS_i (n := 1) hK (fun _ _ _ _ q => ct_X5_isText hK.zk q) (lw_S q1340 q1341 q102 q1342) (by decide +kernel) (by decide) rfl rfl (Nat.le_of_ble_eq_true rfl) dX5_wipe_1 h (fun v2 L1 _ _ h => ?_)
  refine aw_if_ne (tgt := 10) hK dX5_wipe_4 (by decide) h (fun h => ?_) (fun h => ?_)
  · refine aw_aload_n hK 0 dX5_wipe_10 rfl rfl ?_
    refine aw_gR hK fw_c7 0 (by decide) rfl q1193 (fun _ h9 => h9) dX5_wipe_11 h (fun r3 h => ?_)
    refine aw_iload_n hK 1 dX5_wipe_14 rfl rfl ?_
    obtain _ | j4 := r3
    · exact (fw_nn_no h).elim
    replace h := fw_nn_so h
    refine aw_iald hK dX5_wipe_15 h (fun v5 h => ?_)
    refine aw_istore_n (lv' := [(2, aI v5), (0, aR (some j0)), (1, aI x1)]) hK dX5_wipe_16 rfl (by decide) rfl ?_
    refine aw_aload_n hK 1 dX5_wipe_17 rfl rfl ?_
    refine aw_gR hK fw_c7 0 (by decide) rfl q1193 (fun _ h9 => h9) dX5_wipe_18 h (fun r6 h => ?_)
    refine aw_iload_n hK 2 dX5_wipe_21 rfl rfl ?_
    refine aw_iconst (v := (nI 0)) hK dX5_wipe_22 rfl ?_
    obtain _ | j7 := r6
    · exact (fw_nn_no h).elim
    replace h := fw_nn_so h
    refine aw_iast hK dX5_wipe_23 h (fun L8 h => ?_)
    refine aw_iload_n hK 0 dX5_wipe_24 rfl rfl ?_
    exact aw_iret hK dX5_wipe_25 h hF
  · refine aw_bipush (v := (-nI 2)) hK dX5_wipe_7 rfl ?_
    exact aw_iret hK dX5_wipe_9 h hF
theorem ct_X5_wipe {Z : fw_ZT} (hZ : fw_Zok Z) {j0 : Nat} {x1 : Int32} {L : LH} {r9 : Int32} {L9 : LH} {mc ms : Nat} (h : f_X5_wipe j0 x1 L = some (r9, L9, mc, ms)) : Ct Z yX5_wipe (ws_ yX5_wipe cX5_wipe 3 (some (.int))) 2 42 [aR (some j0), aI x1] L (some (aI r9)) L9 mc ms :=
  ct_of (own := RX5) hZ (by decide +kernel) rfl (Nat.le_of_ble_eq_true rfl) (fun K _ hK hF hini => w_X5_wipe_0 hK hF h)
def f_X5_undo (j0 : Nat) (x1 : Int32) (L : LH) : Rs Int32 :=
  fw_cl (f_X5_isText x1 L) fun v2 L1 =>
  if v2 = 0 then (
    some ((-nI 2), L1, 0, 0)
  ) else (
    fw_gR 8 L1 j0 0 fun r3 =>
    fw_nn r3 fun j4 =>
    fw_rd 100 L1 j4 x1 fun v5 =>
    if v5 = 0 then (
      some ((-nI 3), L1, 0, 0)
    ) else (
      fw_gR 8 L1 j0 0 fun r6 =>
      fw_nn r6 fun j7 =>
      fw_rd 100 L1 j7 x1 fun v8 =>
      fw_wr 100 L1 j7 x1 (v8 - (nI 1)) fun L9 =>
      fw_gR 8 L9 j0 0 fun r10 =>
      fw_nn r10 fun j11 =>
      fw_rd 100 L9 j11 x1 fun v12 =>
      some (v12, L9, 0, 0)
    )
  )
set_option maxHeartbeats 4000000 in
set_option maxRecDepth 100000 in
theorem w_X5_undo_0 {K : Kx} {r9 : Int32} {L9 : LH} (hK : Ok K cX5_undo 2 RX5 2 42) (hF : Fin K (some (.int)) (some (aI r9)) L9) {j0 : Nat} {x1 : Int32} {L : LH} {mc ms : Nat} (h : f_X5_undo j0 x1 L = some (r9, L9, mc, ms)) : AW K L mc ms 0 [(0, aR (some j0)), (1, aI x1)] [] := by
  unfold f_X5_undo at h
  refine aw_iload_n hK 1 dX5_undo_0 rfl rfl ?_
  refine aw_callS_i (n := 1) hK (fun _ _ _ _ q => ct_X5_isText hK.zk q) (lw_S q1340 q1341 q102 q1342) (by decide +kernel) (by decide) rfl rfl (Nat.le_of_ble_eq_true rfl) dX5_undo_1 h (fun v2 L1 _ _ h => ?_)
  refine aw_if_ne (tgt := 10) hK dX5_undo_4 (by decide) h (fun h => ?_) (fun h => ?_)
  · refine aw_aload_n hK 0 dX5_undo_10 rfl rfl ?_
    refine aw_gR hK fw_c7 0 (by decide) rfl q1193 (fun _ h9 => h9) dX5_undo_11 h (fun r3 h => ?_)
    refine aw_iload_n hK 1 dX5_undo_14 rfl rfl ?_
    obtain _ | j4 := r3
    · exact (fw_nn_no h).elim
    replace h := fw_nn_so h
    refine aw_iald hK dX5_undo_15 h (fun v5 h => ?_)
    refine aw_if_ne (tgt := 22) hK dX5_undo_16 (by decide) h (fun h => ?_) (fun h => ?_)
    · refine aw_aload_n hK 0 dX5_undo_22 rfl rfl ?_
      refine aw_gR hK fw_c7 0 (by decide) rfl q1193 (fun _ h9 => h9) dX5_undo_23 h (fun r6 h => ?_)
      refine aw_iload_n hK 1 dX5_undo_26 rfl rfl ?_
      refine aw_dup2 hK dX5_undo_27 rfl rfl ?_
      obtain _ | j7 := r6
      · exact (fw_nn_no h).elim
      replace h := fw_nn_so h
      refine aw_iald hK dX5_undo_28 h (fun v8 h => ?_)
      refine aw_iconst (v := (nI 1)) hK dX5_undo_29 rfl ?_
      refine aw_isub hK dX5_undo_30 ?_
      refine aw_iast hK dX5_undo_31 h (fun L9 h => ?_)
      refine aw_aload_n hK 0 dX5_undo_32 rfl rfl ?_
      refine aw_gR hK fw_c7 0 (by decide) rfl q1193 (fun _ h9 => h9) dX5_undo_33 h (fun r10 h => ?_)
      refine aw_iload_n hK 1 dX5_undo_36 rfl rfl ?_
      obtain _ | j11 := r10
      · exact (fw_nn_no h).elim
      replace h := fw_nn_so h
      refine aw_iald hK dX5_undo_37 h (fun v12 h => ?_)
      exact aw_iret hK dX5_undo_38 h hF
    · refine aw_bipush (v := (-nI 3)) hK dX5_undo_19 rfl ?_
      exact aw_iret hK dX5_undo_21 h hF
  · refine aw_bipush (v := (-nI 2)) hK dX5_undo_7 rfl ?_
    exact aw_iret hK dX5_undo_9 h hF
theorem ct_X5_undo {Z : fw_ZT} (hZ : fw_Zok Z) {j0 : Nat} {x1 : Int32} {L : LH} {r9 : Int32} {L9 : LH} {mc ms : Nat} (h : f_X5_undo j0 x1 L = some (r9, L9, mc, ms)) : Ct Z yX5_undo (ws_ yX5_undo cX5_undo 2 (some (.int))) 2 42 [aR (some j0), aI x1] L (some (aI r9)) L9 mc ms :=
  ct_of (own := RX5) hZ (by decide +kernel) rfl (Nat.le_of_ble_eq_true rfl) (fun K _ hK hF hini => w_X5_undo_0 hK hF h)
def f_X5_readsPuller_42 (j0 : Nat) (x1 : Int32) (x2 : Int32) (x3 : Int32) (sx0 : Int32) (L : LH) : Rs Int32 :=
  fw_is 8 L j0 <|
  fw_cl (f_X5_byteAt j0 x1 (x3 + (nI 1)) L) fun v2 L1 =>
  fw_is 8 L1 j0 <|
  fw_cl (f_X5_byteAt j0 x1 (x3 + (nI 2)) L1) fun v4 L3 =>
  if x2 = (nI 8) then (
    some ((nI 0), L3, 0, 0)
  ) else (
    if sx0 = (-nI 1) then (
      some ((nI 0), L3, 0, 0)
    ) else (
      fw_cl (f_X5_in (v2 - (nI 48)) (nI 1) (nI 9) L3) fun v6 L5 =>
      if v6 = 0 then (
        some ((nI 1), L5, 0, 0)
      ) else (
        fw_cl (f_X5_in (v4 - (nI 48)) (nI 1) (nI 9) L5) fun v8 L7 =>
        if v8 = 0 then (
          some ((nI 2), L7, 0, 0)
        ) else (
          fw_gR 8 L7 j0 3 fun r9 =>
          fw_nn r9 fun j10 =>
          fw_wr 100 L7 j10 (((nI 8) * x1) + x2) sx0 fun L11 =>
          fw_gR 8 L11 j0 4 fun r12 =>
          fw_nn r12 fun j13 =>
          fw_wr 100 L11 j13 (((nI 8) * x1) + x2) (v2 - (nI 48)) fun L14 =>
          fw_gR 8 L14 j0 5 fun r15 =>
          fw_nn r15 fun j16 =>
          fw_wr 100 L14 j16 (((nI 8) * x1) + x2) (v4 - (nI 48)) fun L17 =>
          some ((nI 3), L17, 0, 0)
        )
      )
    )
  )
def f_X5_readsPuller (j0 : Nat) (x1 : Int32) (x2 : Int32) (x3 : Int32) (L : LH) : Rs Int32 :=
  fw_is 8 L j0 <|
  fw_cl (f_X5_byteAt j0 x1 x3 L) fun v2 L1 =>
  if v2 = (nI 104) then (
    f_X5_readsPuller_42 j0 x1 x2 x3 (nI 0) L1
  ) else (
    if v2 = (nI 108) then (
      f_X5_readsPuller_42 j0 x1 x2 x3 (nI 1) L1
    ) else (
      if v2 = (nI 97) then (
        f_X5_readsPuller_42 j0 x1 x2 x3 (nI 2) L1
      ) else (
        f_X5_readsPuller_42 j0 x1 x2 x3 (-nI 1) L1
      )
    )
  )
set_option maxHeartbeats 4000000 in
set_option maxRecDepth 100000 in
theorem w_X5_readsPuller_42 {K : Kx} {r9 : Int32} {L9 : LH} (hK : Ok K cX5_readsPuller 8 RX5 1 22) (hF : Fin K (some (.int)) (some (aI r9)) L9) {j0 : Nat} {x1 : Int32} {x2 : Int32} {x3 : Int32} {sx0 : Int32} {L : LH} {mc ms : Nat} (h : f_X5_readsPuller_42 j0 x1 x2 x3 sx0 L = some (r9, L9, mc, ms)) : AW K L mc ms 42 [(0, aR (some j0)), (1, aI x1), (2, aI x2), (3, aI x3)] [aI sx0] := by
  unfold f_X5_readsPuller_42 at h
  refine aw_istore (lv' := [(5, aI sx0), (0, aR (some j0)), (1, aI x1), (2, aI x2), (3, aI x3)]) hK dX5_readsPuller_42 (by decide) rfl ?_
  refine aw_aload_n hK 1 dX5_readsPuller_44 rfl rfl ?_
  refine aw_iload_n hK 2 dX5_readsPuller_45 rfl rfl ?_
  refine aw_iload_n hK 4 dX5_readsPuller_46 rfl rfl ?_
  refine aw_iconst (v := (nI 1)) hK dX5_readsPuller_47 rfl ?_
  refine aw_iadd hK dX5_readsPuller_48 ?_
  obtain ⟨hj, h⟩ := fw_is_h h
  refine aw_callV_i (n := 2) hK fw_c7 hj (fun _ _ _ _ q => ct_X5_byteAt hK.zk q) (lw_V q1370 q1372 qs47 q102 q1373) (by decide +kernel) (by decide) rfl rfl (Nat.le_of_ble_eq_true rfl) dX5_readsPuller_49 h (fun v2 L1 _ _ h => ?_)
  refine aw_bipush (v := (nI 48)) hK dX5_readsPuller_52 rfl ?_
  refine aw_isub hK dX5_readsPuller_54 ?_
  refine aw_istore (lv' := [(6, aI (v2 - (nI 48))), (5, aI sx0), (0, aR (some j0)), (1, aI x1), (2, aI x2), (3, aI x3)]) hK dX5_readsPuller_55 (by decide) rfl ?_
  refine aw_aload_n hK 2 dX5_readsPuller_57 rfl rfl ?_
  refine aw_iload_n hK 3 dX5_readsPuller_58 rfl rfl ?_
  refine aw_iload_n hK 5 dX5_readsPuller_59 rfl rfl ?_
  refine aw_iconst (v := (nI 2)) hK dX5_readsPuller_60 rfl ?_
  refine aw_iadd hK dX5_readsPuller_61 ?_
  obtain ⟨hj, h⟩ := fw_is_h h
  refine aw_callV_i (n := 2) hK fw_c7 hj (fun _ _ _ _ q => ct_X5_byteAt hK.zk q) (lw_V q1370 q1372 qs47 q102 q1373) (by decide +kernel) (by decide) rfl rfl (Nat.le_of_ble_eq_true rfl) dX5_readsPuller_62 h (fun v4 L3 _ _ h => ?_)
  refine aw_bipush (v := (nI 48)) hK dX5_readsPuller_65 rfl ?_
  refine aw_isub hK dX5_readsPuller_67 ?_
  refine aw_istore (lv' := [(7, aI (v4 - (nI 48))), (6, aI (v2 - (nI 48))), (5, aI sx0), (0, aR (some j0)), (1, aI x1), (2, aI x2), (3, aI x3)]) hK dX5_readsPuller_68 (by decide) rfl ?_
  refine aw_iload_n hK 5 dX5_readsPuller_70 rfl rfl ?_
  refine aw_bipush (v := (nI 8)) hK dX5_readsPuller_71 rfl ?_
  refine aw_icmp_eq (tgt := 82) hK dX5_readsPuller_73 (by decide) h (fun h => ?_) (fun h => ?_)
  · refine aw_iconst (v := (nI 0)) hK dX5_readsPuller_82 rfl ?_
    exact aw_iret hK dX5_readsPuller_83 h hF
  · refine aw_iload hK 2 dX5_readsPuller_76 rfl ?_
    refine aw_iconst (v := (-nI 1)) hK dX5_readsPuller_78 rfl ?_
    refine aw_icmp_ne (tgt := 84) hK dX5_readsPuller_79 (by decide) h (fun h => ?_) (fun h => ?_)
    · refine aw_iload hK 1 dX5_readsPuller_84 rfl ?_
      refine aw_iconst (v := (nI 1)) hK dX5_readsPuller_86 rfl ?_
      refine aw_bipush (v := (nI 9)) hK dX5_readsPuller_87 rfl ?_
      refine aw_callS_i (n := 3) hK (fun _ _ _ _ q => ct_X5_in hK.zk q) (lw_S q1343 q1344 q102 q1345) (by decide +kernel) (by decide) rfl rfl (Nat.le_of_ble_eq_true rfl) dX5_readsPuller_89 h (fun v6 L5 _ _ h => ?_)
      refine aw_if_ne (tgt := 97) hK dX5_readsPuller_92 (by decide) h (fun h => ?_) (fun h => ?_)
      · refine aw_iload hK 0 dX5_readsPuller_97 rfl ?_
        refine aw_iconst (v := (nI 1)) hK dX5_readsPuller_99 rfl ?_
        refine aw_bipush (v := (nI 9)) hK dX5_readsPuller_100 rfl ?_
        refine aw_callS_i (n := 3) hK (fun _ _ _ _ q => ct_X5_in hK.zk q) (lw_S q1343 q1344 q102 q1345) (by decide +kernel) (by decide) rfl rfl (Nat.le_of_ble_eq_true rfl) dX5_readsPuller_102 h (fun v8 L7 _ _ h => ?_)
        refine aw_if_ne (tgt := 110) hK dX5_readsPuller_105 (by decide) h (fun h => ?_) (fun h => ?_)
        · refine aw_aload_n hK 3 dX5_readsPuller_110 rfl rfl ?_
          refine aw_gR hK fw_c7 3 (by decide) rfl q1196 (fun _ h9 => h9) dX5_readsPuller_111 h (fun r9 h => ?_)
          refine aw_bipush (v := (nI 8)) hK dX5_readsPuller_114 rfl ?_
          refine aw_iload_n hK 4 dX5_readsPuller_116 rfl rfl ?_
          refine aw_imul hK dX5_readsPuller_117 ?_
          refine aw_iload_n hK 5 dX5_readsPuller_118 rfl rfl ?_
          refine aw_iadd hK dX5_readsPuller_119 ?_
          refine aw_iload hK 2 dX5_readsPuller_120 rfl ?_
          obtain _ | j10 := r9
          · exact (fw_nn_no h).elim
          replace h := fw_nn_so h
          refine aw_iast hK dX5_readsPuller_122 h (fun L11 h => ?_)
          refine aw_aload_n hK 3 dX5_readsPuller_123 rfl rfl ?_
          refine aw_gR hK fw_c7 4 (by decide) rfl q1197 (fun _ h9 => h9) dX5_readsPuller_124 h (fun r12 h => ?_)
          refine aw_bipush (v := (nI 8)) hK dX5_readsPuller_127 rfl ?_
          refine aw_iload_n hK 4 dX5_readsPuller_129 rfl rfl ?_
          refine aw_imul hK dX5_readsPuller_130 ?_
          refine aw_iload_n hK 5 dX5_readsPuller_131 rfl rfl ?_
          refine aw_iadd hK dX5_readsPuller_132 ?_
          refine aw_iload hK 1 dX5_readsPuller_133 rfl ?_
          obtain _ | j13 := r12
          · exact (fw_nn_no h).elim
          replace h := fw_nn_so h
          refine aw_iast hK dX5_readsPuller_135 h (fun L14 h => ?_)
          refine aw_aload_n hK 3 dX5_readsPuller_136 rfl rfl ?_
          refine aw_gR hK fw_c7 5 (by decide) rfl q1198 (fun _ h9 => h9) dX5_readsPuller_137 h (fun r15 h => ?_)
          refine aw_bipush (v := (nI 8)) hK dX5_readsPuller_140 rfl ?_
          refine aw_iload_n hK 4 dX5_readsPuller_142 rfl rfl ?_
          refine aw_imul hK dX5_readsPuller_143 ?_
          refine aw_iload_n hK 5 dX5_readsPuller_144 rfl rfl ?_
          refine aw_iadd hK dX5_readsPuller_145 ?_
          refine aw_iload hK 0 dX5_readsPuller_146 rfl ?_
          obtain _ | j16 := r15
          · exact (fw_nn_no h).elim
          replace h := fw_nn_so h
          refine aw_iast hK dX5_readsPuller_148 h (fun L17 h => ?_)
          refine aw_iconst (v := (nI 3)) hK dX5_readsPuller_149 rfl ?_
          exact aw_iret hK dX5_readsPuller_150 h hF
        · refine aw_iconst (v := (nI 2)) hK dX5_readsPuller_108 rfl ?_
          exact aw_iret hK dX5_readsPuller_109 h hF
      · refine aw_iconst (v := (nI 1)) hK dX5_readsPuller_95 rfl ?_
        exact aw_iret hK dX5_readsPuller_96 h hF
    · refine aw_iconst (v := (nI 0)) hK dX5_readsPuller_82 rfl ?_
      exact aw_iret hK dX5_readsPuller_83 h hF
set_option maxHeartbeats 4000000 in
set_option maxRecDepth 100000 in
theorem w_X5_readsPuller_0 {K : Kx} {r9 : Int32} {L9 : LH} (hK : Ok K cX5_readsPuller 8 RX5 1 22) (hF : Fin K (some (.int)) (some (aI r9)) L9) {j0 : Nat} {x1 : Int32} {x2 : Int32} {x3 : Int32} {L : LH} {mc ms : Nat} (h : f_X5_readsPuller j0 x1 x2 x3 L = some (r9, L9, mc, ms)) : AW K L mc ms 0 [(0, aR (some j0)), (1, aI x1), (2, aI x2), (3, aI x3)] [] := by
  unfold f_X5_readsPuller at h
  refine aw_aload_n hK 0 dX5_readsPuller_0 rfl rfl ?_
  refine aw_iload_n hK 1 dX5_readsPuller_1 rfl rfl ?_
  refine aw_iload_n hK 3 dX5_readsPuller_2 rfl rfl ?_
  obtain ⟨hj, h⟩ := fw_is_h h
  refine aw_callV_i (n := 2) hK fw_c7 hj (fun _ _ _ _ q => ct_X5_byteAt hK.zk q) (lw_V q1370 q1372 qs47 q102 q1373) (by decide +kernel) (by decide) rfl rfl (Nat.le_of_ble_eq_true rfl) dX5_readsPuller_3 h (fun v2 L1 _ _ h => ?_)
  refine aw_istore (lv' := [(4, aI v2), (0, aR (some j0)), (1, aI x1), (2, aI x2), (3, aI x3)]) hK dX5_readsPuller_6 (by decide) rfl ?_
  refine aw_iload hK 0 dX5_readsPuller_8 rfl ?_
  refine aw_bipush (v := (nI 104)) hK dX5_readsPuller_10 rfl ?_
  refine aw_icmp_ne (tgt := 19) hK dX5_readsPuller_12 (by decide) h (fun h => ?_) (fun h => ?_)
  · refine aw_iload hK 0 dX5_readsPuller_19 rfl ?_
    refine aw_bipush (v := (nI 108)) hK dX5_readsPuller_21 rfl ?_
    refine aw_icmp_ne (tgt := 30) hK dX5_readsPuller_23 (by decide) h (fun h => ?_) (fun h => ?_)
    · refine aw_iload hK 0 dX5_readsPuller_30 rfl ?_
      refine aw_bipush (v := (nI 97)) hK dX5_readsPuller_32 rfl ?_
      refine aw_icmp_ne (tgt := 41) hK dX5_readsPuller_34 (by decide) h (fun h => ?_) (fun h => ?_)
      · refine aw_iconst (v := (-nI 1)) hK dX5_readsPuller_41 rfl ?_
        exact aw_sub [1, 2, 3, 4] rfl (w_X5_readsPuller_42 hK hF h)
      · refine aw_iconst (v := (nI 2)) hK dX5_readsPuller_37 rfl ?_
        refine aw_goto (tgt := 42) hK dX5_readsPuller_38 (by decide) ?_
        exact aw_sub [1, 2, 3, 4] rfl (w_X5_readsPuller_42 hK hF h)
    · refine aw_iconst (v := (nI 1)) hK dX5_readsPuller_26 rfl ?_
      refine aw_goto (tgt := 42) hK dX5_readsPuller_27 (by decide) ?_
      exact aw_sub [1, 2, 3, 4] rfl (w_X5_readsPuller_42 hK hF h)
  · refine aw_iconst (v := (nI 0)) hK dX5_readsPuller_15 rfl ?_
    refine aw_goto (tgt := 42) hK dX5_readsPuller_16 (by decide) ?_
    exact aw_sub [1, 2, 3, 4] rfl (w_X5_readsPuller_42 hK hF h)
theorem ct_X5_readsPuller {Z : fw_ZT} (hZ : fw_Zok Z) {j0 : Nat} {x1 : Int32} {x2 : Int32} {x3 : Int32} {L : LH} {r9 : Int32} {L9 : LH} {mc ms : Nat} (h : f_X5_readsPuller j0 x1 x2 x3 L = some (r9, L9, mc, ms)) : Ct Z yX5_readsPuller (ws_ yX5_readsPuller cX5_readsPuller 8 (some (.int))) 1 22 [aR (some j0), aI x1, aI x2, aI x3] L (some (aI r9)) L9 mc ms :=
  ct_of (own := RX5) hZ (by decide +kernel) rfl (Nat.le_of_ble_eq_true rfl) (fun K _ hK hF hini => w_X5_readsPuller_0 hK hF h)
def f_X5_readsCalls_72 : Nat → Nat → Int32 → Int32 → Int32 → LH → Rs Int32
  | 0, _, _, _, _, _ => none
  | n + 1, j0, x1, x2, x3, L =>
    fw_gR 8 L j0 0 fun r1 =>
    fw_nn r1 fun j2 =>
    fw_rd 100 L j2 x2 fun v3 =>
    if v3 ≤ x3 then (
      fw_gR 8 L j0 6 fun r4 =>
      fw_gR 8 L j0 0 fun r5 =>
      fw_nn r5 fun j6 =>
      fw_rd 100 L j6 x2 fun v7 =>
      fw_nn r4 fun j8 =>
      fw_wr 100 L j8 x1 v7 fun L9 =>
      some ((-nI 1), L9, 0, 0)
    ) else (
      fw_gR 8 L j0 7 fun r10 =>
      fw_is 8 L j0 <|
      fw_cl (f_X5_byteAt j0 x2 x3 L) fun v12 L11 =>
      fw_cl (f_X5_callBy v12 L11) fun v14 L13 =>
      fw_nn r10 fun j15 =>
      fw_wr 100 L13 j15 (((nI 24) * x1) + x3) v14 fun L16 =>
      f_X5_readsCalls_72 n j0 x1 x2 (x3 + (nI 1)) L16
    )
def f_X5_readsCalls_39 : Nat → Nat → Int32 → Int32 → Int32 → LH → Rs Int32
  | 0, _, _, _, _, _ => none
  | n + 1, j0, x1, x2, x3, L =>
    fw_gR 8 L j0 0 fun r1 =>
    fw_nn r1 fun j2 =>
    fw_rd 100 L j2 x2 fun v3 =>
    if v3 ≤ x3 then (
      f_X5_readsCalls_72 fw_fuel j0 x1 x2 (nI 0) L
    ) else (
      fw_is 8 L j0 <|
      fw_cl (f_X5_byteAt j0 x2 x3 L) fun v5 L4 =>
      fw_cl (f_X5_callBy v5 L4) fun v7 L6 =>
      if v7 = (-nI 1) then (
        some (x3, L6, 0, 0)
      ) else (
        f_X5_readsCalls_39 n j0 x1 x2 (x3 + (nI 1)) L6
      )
    )
def f_X5_readsCalls_13 : Nat → Nat → Int32 → Int32 → Int32 → LH → Rs Int32
  | 0, _, _, _, _, _ => none
  | n + 1, j0, x1, x2, x3, L =>
    if (nI 24) ≤ x3 then (
      f_X5_readsCalls_39 fw_fuel j0 x1 x2 (nI 0) L
    ) else (
      fw_gR 8 L j0 7 fun r1 =>
      fw_nn r1 fun j2 =>
      fw_wr 100 L j2 (((nI 24) * x1) + x3) (nI 1) fun L3 =>
      f_X5_readsCalls_13 n j0 x1 x2 (x3 + (nI 1)) L3
    )
def f_X5_readsCalls (j0 : Nat) (x1 : Int32) (L : LH) : Rs Int32 :=
  fw_gR 8 L j0 6 fun r1 =>
  fw_nn r1 fun j2 =>
  fw_wr 100 L j2 x1 (nI 0) fun L3 =>
  f_X5_readsCalls_13 fw_fuel j0 x1 (x1 + (nI 2)) (nI 0) L3
set_option maxHeartbeats 4000000 in
set_option maxRecDepth 100000 in
theorem w_X5_readsCalls_72 {K : Kx} {r9 : Int32} {L9 : LH} (hK : Ok K cX5_readsCalls 4 RX5 1 22) (hF : Fin K (some (.int)) (some (aI r9)) L9) : ∀ {n : Nat} {j0 : Nat} {x1 : Int32} {x2 : Int32} {x3 : Int32} {L : LH} {mc ms : Nat}, f_X5_readsCalls_72 n j0 x1 x2 x3 L = some (r9, L9, mc, ms) → AW K L mc ms 72 [(0, aR (some j0)), (1, aI x1), (2, aI x2), (3, aI x3)] [] := by
  intro n
  induction n with
  | zero =>
    intro j0 x1 x2 x3 L mc ms h
    have h : (none : Rs Int32) = some (r9, L9, mc, ms) := h
    cases h
  | succ n ih =>
    intro j0 x1 x2 x3 L mc ms h
    unfold f_X5_readsCalls_72 at h
    refine aw_iload_n hK 3 dX5_readsCalls_72 rfl rfl ?_
    refine aw_aload_n hK 0 dX5_readsCalls_73 rfl rfl ?_
    refine aw_gR hK fw_c7 0 (by decide) rfl q1193 (fun _ h9 => h9) dX5_readsCalls_74 h (fun r1 h => ?_)
    refine aw_iload_n hK 2 dX5_readsCalls_77 rfl rfl ?_
    obtain _ | j2 := r1
    · exact (fw_nn_no h).elim
    replace h := fw_nn_so h
    refine aw_iald hK dX5_readsCalls_78 h (fun v3 h => ?_)
    refine aw_icmp_ge (tgt := 108) hK dX5_readsCalls_79 (by decide) h (fun h => ?_) (fun h => ?_)
    · refine aw_aload_n hK 0 dX5_readsCalls_108 rfl rfl ?_
      refine aw_gR hK fw_c7 6 (by decide) rfl q1199 (fun _ h9 => h9) dX5_readsCalls_109 h (fun r4 h => ?_)
      refine aw_iload_n hK 1 dX5_readsCalls_112 rfl rfl ?_
      refine aw_aload_n hK 0 dX5_readsCalls_113 rfl rfl ?_
      refine aw_gR hK fw_c7 0 (by decide) rfl q1193 (fun _ h9 => h9) dX5_readsCalls_114 h (fun r5 h => ?_)
      refine aw_iload_n hK 2 dX5_readsCalls_117 rfl rfl ?_
      obtain _ | j6 := r5
      · exact (fw_nn_no h).elim
      replace h := fw_nn_so h
      refine aw_iald hK dX5_readsCalls_118 h (fun v7 h => ?_)
      obtain _ | j8 := r4
      · exact (fw_nn_no h).elim
      replace h := fw_nn_so h
      refine aw_iast hK dX5_readsCalls_119 h (fun L9 h => ?_)
      refine aw_iconst (v := (-nI 1)) hK dX5_readsCalls_120 rfl ?_
      exact aw_iret hK dX5_readsCalls_121 h hF
    · refine aw_aload_n hK 0 dX5_readsCalls_82 rfl rfl ?_
      refine aw_gR hK fw_c7 7 (by decide) rfl q1200 (fun _ h9 => h9) dX5_readsCalls_83 h (fun r10 h => ?_)
      refine aw_bipush (v := (nI 24)) hK dX5_readsCalls_86 rfl ?_
      refine aw_iload_n hK 1 dX5_readsCalls_88 rfl rfl ?_
      refine aw_imul hK dX5_readsCalls_89 ?_
      refine aw_iload_n hK 3 dX5_readsCalls_90 rfl rfl ?_
      refine aw_iadd hK dX5_readsCalls_91 ?_
      refine aw_aload_n hK 0 dX5_readsCalls_92 rfl rfl ?_
      refine aw_iload_n hK 2 dX5_readsCalls_93 rfl rfl ?_
      refine aw_iload_n hK 3 dX5_readsCalls_94 rfl rfl ?_
      obtain ⟨hj, h⟩ := fw_is_h h
      refine aw_callV_i (n := 2) hK fw_c7 hj (fun _ _ _ _ q => ct_X5_byteAt hK.zk q) (lw_V q1370 q1372 qs47 q102 q1373) (by decide +kernel) (by decide) rfl rfl (Nat.le_of_ble_eq_true rfl) dX5_readsCalls_95 h (fun v12 L11 _ _ h => ?_)
      refine aw_callS_i (n := 1) hK (fun _ _ _ _ q => ct_X5_callBy hK.zk q) (lw_S q1378 q1379 q102 q1380) (by decide +kernel) (by decide) rfl rfl (Nat.le_of_ble_eq_true rfl) dX5_readsCalls_98 h (fun v14 L13 _ _ h => ?_)
      obtain _ | j15 := r10
      · exact (fw_nn_no h).elim
      replace h := fw_nn_so h
      refine aw_iast hK dX5_readsCalls_101 h (fun L16 h => ?_)
      refine aw_iinc (v := (x3 + (nI 1))) (lv' := [(3, aI (x3 + (nI 1))), (0, aR (some j0)), (1, aI x1), (2, aI x2)]) hK 3 dX5_readsCalls_102 rfl rfl (by decide) rfl ?_
      refine aw_goto (tgt := 72) hK dX5_readsCalls_105 (by decide) ?_
      exact aw_sub [1, 2, 3, 0] rfl (ih h)
set_option maxHeartbeats 4000000 in
set_option maxRecDepth 100000 in
theorem w_X5_readsCalls_39 {K : Kx} {r9 : Int32} {L9 : LH} (hK : Ok K cX5_readsCalls 4 RX5 1 22) (hF : Fin K (some (.int)) (some (aI r9)) L9) : ∀ {n : Nat} {j0 : Nat} {x1 : Int32} {x2 : Int32} {x3 : Int32} {L : LH} {mc ms : Nat}, f_X5_readsCalls_39 n j0 x1 x2 x3 L = some (r9, L9, mc, ms) → AW K L mc ms 39 [(0, aR (some j0)), (1, aI x1), (2, aI x2), (3, aI x3)] [] := by
  intro n
  induction n with
  | zero =>
    intro j0 x1 x2 x3 L mc ms h
    have h : (none : Rs Int32) = some (r9, L9, mc, ms) := h
    cases h
  | succ n ih =>
    intro j0 x1 x2 x3 L mc ms h
    unfold f_X5_readsCalls_39 at h
    refine aw_iload_n hK 3 dX5_readsCalls_39 rfl rfl ?_
    refine aw_aload_n hK 0 dX5_readsCalls_40 rfl rfl ?_
    refine aw_gR hK fw_c7 0 (by decide) rfl q1193 (fun _ h9 => h9) dX5_readsCalls_41 h (fun r1 h => ?_)
    refine aw_iload_n hK 2 dX5_readsCalls_44 rfl rfl ?_
    obtain _ | j2 := r1
    · exact (fw_nn_no h).elim
    replace h := fw_nn_so h
    refine aw_iald hK dX5_readsCalls_45 h (fun v3 h => ?_)
    refine aw_icmp_ge (tgt := 70) hK dX5_readsCalls_46 (by decide) h (fun h => ?_) (fun h => ?_)
    · refine aw_iconst (v := (nI 0)) hK dX5_readsCalls_70 rfl ?_
      refine aw_istore_n (lv' := [(3, aI (nI 0)), (0, aR (some j0)), (1, aI x1), (2, aI x2)]) hK dX5_readsCalls_71 rfl (by decide) rfl ?_
      exact aw_sub [1, 2, 3, 0] rfl (w_X5_readsCalls_72 hK hF h)
    · refine aw_aload_n hK 0 dX5_readsCalls_49 rfl rfl ?_
      refine aw_iload_n hK 2 dX5_readsCalls_50 rfl rfl ?_
      refine aw_iload_n hK 3 dX5_readsCalls_51 rfl rfl ?_
      obtain ⟨hj, h⟩ := fw_is_h h
      refine aw_callV_i (n := 2) hK fw_c7 hj (fun _ _ _ _ q => ct_X5_byteAt hK.zk q) (lw_V q1370 q1372 qs47 q102 q1373) (by decide +kernel) (by decide) rfl rfl (Nat.le_of_ble_eq_true rfl) dX5_readsCalls_52 h (fun v5 L4 _ _ h => ?_)
      refine aw_callS_i (n := 1) hK (fun _ _ _ _ q => ct_X5_callBy hK.zk q) (lw_S q1378 q1379 q102 q1380) (by decide +kernel) (by decide) rfl rfl (Nat.le_of_ble_eq_true rfl) dX5_readsCalls_55 h (fun v7 L6 _ _ h => ?_)
      refine aw_iconst (v := (-nI 1)) hK dX5_readsCalls_58 rfl ?_
      refine aw_icmp_ne (tgt := 64) hK dX5_readsCalls_59 (by decide) h (fun h => ?_) (fun h => ?_)
      · refine aw_iinc (v := (x3 + (nI 1))) (lv' := [(3, aI (x3 + (nI 1))), (0, aR (some j0)), (1, aI x1), (2, aI x2)]) hK 3 dX5_readsCalls_64 rfl rfl (by decide) rfl ?_
        refine aw_goto (tgt := 39) hK dX5_readsCalls_67 (by decide) ?_
        exact aw_sub [1, 2, 3, 0] rfl (ih h)
      · refine aw_iload_n hK 3 dX5_readsCalls_62 rfl rfl ?_
        exact aw_iret hK dX5_readsCalls_63 h hF
set_option maxHeartbeats 4000000 in
set_option maxRecDepth 100000 in
theorem w_X5_readsCalls_13 {K : Kx} {r9 : Int32} {L9 : LH} (hK : Ok K cX5_readsCalls 4 RX5 1 22) (hF : Fin K (some (.int)) (some (aI r9)) L9) : ∀ {n : Nat} {j0 : Nat} {x1 : Int32} {x2 : Int32} {x3 : Int32} {L : LH} {mc ms : Nat}, f_X5_readsCalls_13 n j0 x1 x2 x3 L = some (r9, L9, mc, ms) → AW K L mc ms 13 [(0, aR (some j0)), (1, aI x1), (2, aI x2), (3, aI x3)] [] := by
  intro n
  induction n with
  | zero =>
    intro j0 x1 x2 x3 L mc ms h
    have h : (none : Rs Int32) = some (r9, L9, mc, ms) := h
    cases h
  | succ n ih =>
    intro j0 x1 x2 x3 L mc ms h
    unfold f_X5_readsCalls_13 at h
    refine aw_iload_n hK 3 dX5_readsCalls_13 rfl rfl ?_
    refine aw_bipush (v := (nI 24)) hK dX5_readsCalls_14 rfl ?_
    refine aw_icmp_ge (tgt := 37) hK dX5_readsCalls_16 (by decide) h (fun h => ?_) (fun h => ?_)
    · refine aw_iconst (v := (nI 0)) hK dX5_readsCalls_37 rfl ?_
      refine aw_istore_n (lv' := [(3, aI (nI 0)), (0, aR (some j0)), (1, aI x1), (2, aI x2)]) hK dX5_readsCalls_38 rfl (by decide) rfl ?_
      exact aw_sub [1, 2, 3, 0] rfl (w_X5_readsCalls_39 hK hF h)
    · refine aw_aload_n hK 0 dX5_readsCalls_19 rfl rfl ?_
      refine aw_gR hK fw_c7 7 (by decide) rfl q1200 (fun _ h9 => h9) dX5_readsCalls_20 h (fun r1 h => ?_)
      refine aw_bipush (v := (nI 24)) hK dX5_readsCalls_23 rfl ?_
      refine aw_iload_n hK 1 dX5_readsCalls_25 rfl rfl ?_
      refine aw_imul hK dX5_readsCalls_26 ?_
      refine aw_iload_n hK 3 dX5_readsCalls_27 rfl rfl ?_
      refine aw_iadd hK dX5_readsCalls_28 ?_
      refine aw_iconst (v := (nI 1)) hK dX5_readsCalls_29 rfl ?_
      obtain _ | j2 := r1
      · exact (fw_nn_no h).elim
      replace h := fw_nn_so h
      refine aw_iast hK dX5_readsCalls_30 h (fun L3 h => ?_)
      refine aw_iinc (v := (x3 + (nI 1))) (lv' := [(3, aI (x3 + (nI 1))), (0, aR (some j0)), (1, aI x1), (2, aI x2)]) hK 3 dX5_readsCalls_31 rfl rfl (by decide) rfl ?_
      refine aw_goto (tgt := 13) hK dX5_readsCalls_34 (by decide) ?_
      exact aw_sub [1, 2, 3, 0] rfl (ih h)
set_option maxHeartbeats 4000000 in
set_option maxRecDepth 100000 in
theorem w_X5_readsCalls_0 {K : Kx} {r9 : Int32} {L9 : LH} (hK : Ok K cX5_readsCalls 4 RX5 1 22) (hF : Fin K (some (.int)) (some (aI r9)) L9) {j0 : Nat} {x1 : Int32} {L : LH} {mc ms : Nat} (h : f_X5_readsCalls j0 x1 L = some (r9, L9, mc, ms)) : AW K L mc ms 0 [(0, aR (some j0)), (1, aI x1)] [] := by
  unfold f_X5_readsCalls at h
  refine aw_iload_n hK 1 dX5_readsCalls_0 rfl rfl ?_
  refine aw_iconst (v := (nI 2)) hK dX5_readsCalls_1 rfl ?_
  refine aw_iadd hK dX5_readsCalls_2 ?_
  refine aw_istore_n (lv' := [(2, aI (x1 + (nI 2))), (0, aR (some j0)), (1, aI x1)]) hK dX5_readsCalls_3 rfl (by decide) rfl ?_
  refine aw_aload_n hK 1 dX5_readsCalls_4 rfl rfl ?_
  refine aw_gR hK fw_c7 6 (by decide) rfl q1199 (fun _ h9 => h9) dX5_readsCalls_5 h (fun r1 h => ?_)
  refine aw_iload_n hK 2 dX5_readsCalls_8 rfl rfl ?_
  refine aw_iconst (v := (nI 0)) hK dX5_readsCalls_9 rfl ?_
  obtain _ | j2 := r1
  · exact (fw_nn_no h).elim
  replace h := fw_nn_so h
  refine aw_iast hK dX5_readsCalls_10 h (fun L3 h => ?_)
  refine aw_iconst (v := (nI 0)) hK dX5_readsCalls_11 rfl ?_
  refine aw_istore_n (lv' := [(3, aI (nI 0)), (2, aI (x1 + (nI 2))), (0, aR (some j0)), (1, aI x1)]) hK dX5_readsCalls_12 rfl (by decide) rfl ?_
  exact aw_sub [2, 3, 1, 0] rfl (w_X5_readsCalls_13 hK hF h)
theorem ct_X5_readsCalls {Z : fw_ZT} (hZ : fw_Zok Z) {j0 : Nat} {x1 : Int32} {L : LH} {r9 : Int32} {L9 : LH} {mc ms : Nat} (h : f_X5_readsCalls j0 x1 L = some (r9, L9, mc, ms)) : Ct Z yX5_readsCalls (ws_ yX5_readsCalls cX5_readsCalls 4 (some (.int))) 1 22 [aR (some j0), aI x1] L (some (aI r9)) L9 mc ms :=
  ct_of (own := RX5) hZ (by decide +kernel) rfl (Nat.le_of_ble_eq_true rfl) (fun K _ hK hF hini => w_X5_readsCalls_0 hK hF h)
def f_X5_read_32 : Nat → Nat → Int32 → Int32 → Int32 → LH → Rs Int32
  | 0, _, _, _, _, _ => none
  | n + 1, j0, x1, x2, x3, L =>
    fw_gR 8 L j0 43 fun r1 =>
    fw_nn r1 fun j2 =>
    fw_rd 100 L j2 x1 fun v3 =>
    if v3 ≤ (((nI 3) * x2) + (nI 2)) then (
      some (x2, L, 0, 0)
    ) else (
      fw_gR 8 L j0 44 fun r4 =>
      fw_nn r4 fun j5 =>
      fw_rd 100 L j5 (x3 + ((nI 3) * x2)) fun v6 =>
      fw_gR 8 L j0 44 fun r7 =>
      fw_nn r7 fun j8 =>
      fw_rd 100 L j8 ((x3 + ((nI 3) * x2)) + (nI 1)) fun v9 =>
      fw_gR 8 L j0 44 fun r10 =>
      fw_nn r10 fun j11 =>
      fw_rd 100 L j11 ((x3 + ((nI 3) * x2)) + (nI 2)) fun v12 =>
      fw_is 8 L j0 <|
      fw_cl (f_X5_event j0 v6 v9 v12 L) fun v14 L13 =>
      if v14 ≤ 0 then (
        some (x2, L13, 0, 0)
      ) else (
        f_X5_read_32 n j0 x1 (x2 + (nI 1)) x3 L13
      )
    )
def f_X5_read (j0 : Nat) (x1 : Int32) (L : LH) : Rs Int32 :=
  fw_cl (f_X5_isSheet x1 L) fun v2 L1 =>
  if v2 = 0 then (
    some ((-nI 2), L1, 0, 0)
  ) else (
    fw_gR 8 L1 j0 41 fun r3 =>
    fw_nn r3 fun j4 =>
    fw_rd 103 L1 j4 x1 fun v5 =>
    if v5 = 0 then (
      fw_is 8 L1 j0 <|
      fw_cl (f_X5_meets j0 (nI 1) L1) fun v7 L6 =>
      some (v7, L6, 0, 0)
    ) else (
      f_X5_read_32 fw_fuel j0 x1 (nI 0) ((nI 60) * x1) L1
    )
  )
set_option maxHeartbeats 4000000 in
set_option maxRecDepth 100000 in
theorem w_X5_read_32 {K : Kx} {r9 : Int32} {L9 : LH} (hK : Ok K cX5_read 4 RX5 3 65) (hF : Fin K (some (.int)) (some (aI r9)) L9) : ∀ {n : Nat} {j0 : Nat} {x1 : Int32} {x2 : Int32} {x3 : Int32} {L : LH} {mc ms : Nat}, f_X5_read_32 n j0 x1 x2 x3 L = some (r9, L9, mc, ms) → AW K L mc ms 32 [(0, aR (some j0)), (1, aI x1), (2, aI x2), (3, aI x3)] [] := by
  intro n
  induction n with
  | zero =>
    intro j0 x1 x2 x3 L mc ms h
    have h : (none : Rs Int32) = some (r9, L9, mc, ms) := h
    cases h
  | succ n ih =>
    intro j0 x1 x2 x3 L mc ms h
    unfold f_X5_read_32 at h
    refine aw_iconst (v := (nI 3)) hK dX5_read_32 rfl ?_
    refine aw_iload_n hK 2 dX5_read_33 rfl rfl ?_
    refine aw_imul hK dX5_read_34 ?_
    refine aw_iconst (v := (nI 2)) hK dX5_read_35 rfl ?_
    refine aw_iadd hK dX5_read_36 ?_
    refine aw_aload_n hK 0 dX5_read_37 rfl rfl ?_
    refine aw_gR hK fw_c7 43 (by decide) rfl q1236 (fun _ h9 => h9) dX5_read_38 h (fun r1 h => ?_)
    refine aw_iload_n hK 1 dX5_read_41 rfl rfl ?_
    obtain _ | j2 := r1
    · exact (fw_nn_no h).elim
    replace h := fw_nn_so h
    refine aw_iald hK dX5_read_42 h (fun v3 h => ?_)
    refine aw_icmp_ge (tgt := 93) hK dX5_read_43 (by decide) h (fun h => ?_) (fun h => ?_)
    · refine aw_iload_n hK 2 dX5_read_93 rfl rfl ?_
      exact aw_iret hK dX5_read_94 h hF
    · refine aw_aload_n hK 0 dX5_read_46 rfl rfl ?_
      refine aw_aload_n hK 0 dX5_read_47 rfl rfl ?_
      refine aw_gR hK fw_c7 44 (by decide) rfl q1237 (fun _ h9 => h9) dX5_read_48 h (fun r4 h => ?_)
      refine aw_iload_n hK 3 dX5_read_51 rfl rfl ?_
      refine aw_iconst (v := (nI 3)) hK dX5_read_52 rfl ?_
      refine aw_iload_n hK 2 dX5_read_53 rfl rfl ?_
      refine aw_imul hK dX5_read_54 ?_
      refine aw_iadd hK dX5_read_55 ?_
      obtain _ | j5 := r4
      · exact (fw_nn_no h).elim
      replace h := fw_nn_so h
      refine aw_iald hK dX5_read_56 h (fun v6 h => ?_)
      refine aw_aload_n hK 0 dX5_read_57 rfl rfl ?_
      refine aw_gR hK fw_c7 44 (by decide) rfl q1237 (fun _ h9 => h9) dX5_read_58 h (fun r7 h => ?_)
      refine aw_iload_n hK 3 dX5_read_61 rfl rfl ?_
      refine aw_iconst (v := (nI 3)) hK dX5_read_62 rfl ?_
      refine aw_iload_n hK 2 dX5_read_63 rfl rfl ?_
      refine aw_imul hK dX5_read_64 ?_
      refine aw_iadd hK dX5_read_65 ?_
      refine aw_iconst (v := (nI 1)) hK dX5_read_66 rfl ?_
      refine aw_iadd hK dX5_read_67 ?_
      obtain _ | j8 := r7
      · exact (fw_nn_no h).elim
      replace h := fw_nn_so h
      refine aw_iald hK dX5_read_68 h (fun v9 h => ?_)
      refine aw_aload_n hK 0 dX5_read_69 rfl rfl ?_
      refine aw_gR hK fw_c7 44 (by decide) rfl q1237 (fun _ h9 => h9) dX5_read_70 h (fun r10 h => ?_)
      refine aw_iload_n hK 3 dX5_read_73 rfl rfl ?_
      refine aw_iconst (v := (nI 3)) hK dX5_read_74 rfl ?_
      refine aw_iload_n hK 2 dX5_read_75 rfl rfl ?_
      refine aw_imul hK dX5_read_76 ?_
      refine aw_iadd hK dX5_read_77 ?_
      refine aw_iconst (v := (nI 2)) hK dX5_read_78 rfl ?_
      refine aw_iadd hK dX5_read_79 ?_
      obtain _ | j11 := r10
      · exact (fw_nn_no h).elim
      replace h := fw_nn_so h
      refine aw_iald hK dX5_read_80 h (fun v12 h => ?_)
      obtain ⟨hj, h⟩ := fw_is_h h
      refine aw_callV_i (n := 3) hK fw_c7 hj (fun _ _ _ _ q => ct_X5_event hK.zk q) (lw_V q1441 q1423 q1424 q102 q1425) (by decide +kernel) (by decide) rfl rfl (Nat.le_of_ble_eq_true rfl) dX5_read_81 h (fun v14 L13 _ _ h => ?_)
      refine aw_if_le (tgt := 93) hK dX5_read_84 (by decide) h (fun h => ?_) (fun h => ?_)
      · refine aw_iload_n hK 2 dX5_read_93 rfl rfl ?_
        exact aw_iret hK dX5_read_94 h hF
      · refine aw_iinc (v := (x2 + (nI 1))) (lv' := [(2, aI (x2 + (nI 1))), (0, aR (some j0)), (1, aI x1), (3, aI x3)]) hK 2 dX5_read_87 rfl rfl (by decide) rfl ?_
        refine aw_goto (tgt := 32) hK dX5_read_90 (by decide) ?_
        exact aw_sub [1, 2, 0, 3] rfl (ih h)
set_option maxHeartbeats 4000000 in
set_option maxRecDepth 100000 in
theorem w_X5_read_0 {K : Kx} {r9 : Int32} {L9 : LH} (hK : Ok K cX5_read 4 RX5 3 65) (hF : Fin K (some (.int)) (some (aI r9)) L9) {j0 : Nat} {x1 : Int32} {L : LH} {mc ms : Nat} (h : f_X5_read j0 x1 L = some (r9, L9, mc, ms)) : AW K L mc ms 0 [(0, aR (some j0)), (1, aI x1)] [] := by
  unfold f_X5_read at h
  refine aw_iload_n hK 1 dX5_read_0 rfl rfl ?_
  refine aw_callS_i (n := 1) hK (fun _ _ _ _ q => ct_X5_isSheet hK.zk q) (lw_S q1434 q1435 q102 q1436) (by decide +kernel) (by decide) rfl rfl (Nat.le_of_ble_eq_true rfl) dX5_read_1 h (fun v2 L1 _ _ h => ?_)
  refine aw_if_ne (tgt := 10) hK dX5_read_4 (by decide) h (fun h => ?_) (fun h => ?_)
  · refine aw_aload_n hK 0 dX5_read_10 rfl rfl ?_
    refine aw_gR hK fw_c7 41 (by decide) rfl q1234 (fun _ h9 => h9) dX5_read_11 h (fun r3 h => ?_)
    refine aw_iload_n hK 1 dX5_read_14 rfl rfl ?_
    obtain _ | j4 := r3
    · exact (fw_nn_no h).elim
    replace h := fw_nn_so h
    refine aw_zald hK dX5_read_15 h (fun v5 h => ?_)
    refine aw_if_ne (tgt := 25) hK dX5_read_16 (by decide) h (fun h => ?_) (fun h => ?_)
    · refine aw_iconst (v := (nI 0)) hK dX5_read_25 rfl ?_
      refine aw_istore_n (lv' := [(2, aI (nI 0)), (0, aR (some j0)), (1, aI x1)]) hK dX5_read_26 rfl (by decide) rfl ?_
      refine aw_bipush (v := (nI 60)) hK dX5_read_27 rfl ?_
      refine aw_iload_n hK 2 dX5_read_29 rfl rfl ?_
      refine aw_imul hK dX5_read_30 ?_
      refine aw_istore_n (lv' := [(3, aI ((nI 60) * x1)), (2, aI (nI 0)), (0, aR (some j0)), (1, aI x1)]) hK dX5_read_31 rfl (by decide) rfl ?_
      exact aw_sub [2, 3, 1, 0] rfl (w_X5_read_32 hK hF h)
    · refine aw_aload_n hK 0 dX5_read_19 rfl rfl ?_
      refine aw_iconst (v := (nI 1)) hK dX5_read_20 rfl ?_
      obtain ⟨hj, h⟩ := fw_is_h h
      refine aw_callV_i (n := 1) hK fw_c7 hj (fun _ _ _ _ q => ct_X5_meets hK.zk q) (lw_V q1437 q1439 qs54 q102 q1440) (by decide +kernel) (by decide) rfl rfl (Nat.le_of_ble_eq_true rfl) dX5_read_21 h (fun v7 L6 _ _ h => ?_)
      exact aw_iret hK dX5_read_24 h hF
  · refine aw_bipush (v := (-nI 2)) hK dX5_read_7 rfl ?_
    exact aw_iret hK dX5_read_9 h hF
theorem ct_X5_read {Z : fw_ZT} (hZ : fw_Zok Z) {j0 : Nat} {x1 : Int32} {L : LH} {r9 : Int32} {L9 : LH} {mc ms : Nat} (h : f_X5_read j0 x1 L = some (r9, L9, mc, ms)) : Ct Z yX5_read (ws_ yX5_read cX5_read 4 (some (.int))) 3 65 [aR (some j0), aI x1] L (some (aI r9)) L9 mc ms :=
  ct_of (own := RX5) hZ (by decide +kernel) rfl (Nat.le_of_ble_eq_true rfl) (fun K _ hK hF hini => w_X5_read_0 hK hF h)
def f_X5_befalls_126 (rec12 : Nat → Int32 → Int32 → LH → Rs Unit) (j0 : Nat) (x1 : Int32) (x2 : Int32) (L : LH) : Rs Unit :=
  rec12 j0 x1 (x2 + (nI 1)) L
def f_X5_befalls_123 (rec12 : Nat → Int32 → Int32 → LH → Rs Unit) (j0 : Nat) (x1 : Int32) (x2 : Int32) (sx0 : Int32) (sr1 : Option Nat) (L : LH) : Rs Unit :=
  fw_nn sr1 fun j1 =>
  fw_pI 8 L j1 19 sx0 fun L2 =>
  f_X5_befalls_126 rec12 j0 x1 x2 L2
def f_X5_befalls_100 (rec12 : Nat → Int32 → Int32 → LH → Rs Unit) (j0 : Nat) (x1 : Int32) (x2 : Int32) (sx0 : Int32) (sx1 : Int32) (sr2 : Option Nat) (L : LH) : Rs Unit :=
  fw_nn sr2 fun j1 =>
  fw_pI 8 L j1 18 (sx1 + sx0) fun L2 =>
  fw_gR 8 L2 j0 10 fun r3 =>
  fw_nn r3 fun j4 =>
  fw_rd 100 L2 j4 x2 fun v5 =>
  if v5 = (nI 2) then (
    f_X5_befalls_123 rec12 j0 x1 x2 (nI 1) (some j0) L2
  ) else (
    fw_gI 8 L2 j0 19 fun v6 =>
    f_X5_befalls_123 rec12 j0 x1 x2 v6 (some j0) L2
  )
def f_X5_befalls_99 (rec12 : Nat → Int32 → Int32 → LH → Rs Unit) (j0 : Nat) (x1 : Int32) (x2 : Int32) (sx0 : Int32) (sr1 : Option Nat) (L : LH) : Rs Unit :=
  f_X5_befalls_100 rec12 j0 x1 x2 (nI 0) sx0 sr1 L
def f_X5_befalls_67 (rec12 : Nat → Int32 → Int32 → LH → Rs Unit) (j0 : Nat) (x1 : Int32) (x2 : Int32) (sx0 : Int32) (sx1 : Int32) (sr2 : Option Nat) (L : LH) : Rs Unit :=
  fw_nn sr2 fun j1 =>
  fw_pI 8 L j1 20 (sx1 ||| sx0) fun L2 =>
  fw_gI 8 L2 j0 18 fun v3 =>
  fw_gR 8 L2 j0 10 fun r4 =>
  fw_nn r4 fun j5 =>
  fw_rd 100 L2 j5 x2 fun v6 =>
  if v6 = (nI 1) then (
    fw_gI 8 L2 j0 18 fun v7 =>
    if (nI 9) ≤ v7 then (
      f_X5_befalls_99 rec12 j0 x1 x2 v3 (some j0) L2
    ) else (
      f_X5_befalls_100 rec12 j0 x1 x2 (nI 1) v3 (some j0) L2
    )
  ) else (
    f_X5_befalls_99 rec12 j0 x1 x2 v3 (some j0) L2
  )
def f_X5_befalls_12 : Nat → Nat → Int32 → Int32 → LH → Rs Unit
  | 0, _, _, _, _ => none
  | n + 1, j0, x1, x2, L =>
    fw_gI 8 L j0 9 fun v1 =>
    if v1 ≤ x2 then (
      some ((), L, 0, 0)
    ) else (
      fw_gR 8 L j0 11 fun r2 =>
      fw_nn r2 fun j3 =>
      fw_rd 100 L j3 x2 fun v4 =>
      if v4 = x1 then (
        fw_gI 8 L j0 14 fun v5 =>
        fw_cl (f_X5_isIn v5 x2 L) fun v7 L6 =>
        if v7 = 0 then (
          fw_gI 8 L6 j0 20 fun v8 =>
          fw_gR 8 L6 j0 10 fun r9 =>
          fw_nn r9 fun j10 =>
          fw_rd 100 L6 j10 x2 fun v11 =>
          if v11 = 0 then (
            fw_gR 8 L6 j0 12 fun r12 =>
            fw_nn r12 fun j13 =>
            fw_rd 100 L6 j13 x2 fun v14 =>
            f_X5_befalls_67 (f_X5_befalls_12 n) j0 x1 x2 ((nI 1) <<< (v14 &&& 31)) v8 (some j0) L6
          ) else (
            f_X5_befalls_67 (f_X5_befalls_12 n) j0 x1 x2 (nI 0) v8 (some j0) L6
          )
        ) else (
          f_X5_befalls_126 (f_X5_befalls_12 n) j0 x1 x2 L6
        )
      ) else (
        f_X5_befalls_126 (f_X5_befalls_12 n) j0 x1 x2 L
      )
    )
def f_X5_befalls (j0 : Nat) (x1 : Int32) (L : LH) : Rs Unit :=
  fw_pI 8 L j0 19 (nI 0) fun L1 =>
  fw_pI 8 L1 j0 20 (nI 0) fun L2 =>
  f_X5_befalls_12 fw_fuel j0 x1 (nI 0) L2
set_option maxHeartbeats 4000000 in
set_option maxRecDepth 100000 in
theorem w_X5_befalls_126 {K : Kx} {r9 : Unit} {L9 : LH} (hK : Ok K cX5_befalls 3 RX5 1 21) (hF : Fin K none none L9) {rec12 : Nat → Int32 → Int32 → LH → Rs Unit} (hrec12 : ∀ {j0 : Nat} {x1 : Int32} {x2 : Int32} {L : LH} {mc ms : Nat}, rec12 j0 x1 x2 L = some (r9, L9, mc, ms) → AW K L mc ms 12 [(0, aR (some j0)), (1, aI x1), (2, aI x2)] []) {j0 : Nat} {x1 : Int32} {x2 : Int32} {L : LH} {mc ms : Nat} (h : f_X5_befalls_126 rec12 j0 x1 x2 L = some (r9, L9, mc, ms)) : AW K L mc ms 126 [(0, aR (some j0)), (1, aI x1), (2, aI x2)] [] := by
  unfold f_X5_befalls_126 at h
  refine aw_iinc (v := (x2 + (nI 1))) (lv' := [(2, aI (x2 + (nI 1))), (0, aR (some j0)), (1, aI x1)]) hK 2 dX5_befalls_126 rfl rfl (by decide) rfl ?_
  refine aw_goto (tgt := 12) hK dX5_befalls_129 (by decide) ?_
  exact aw_sub [1, 2, 0] rfl (hrec12 h)
set_option maxHeartbeats 4000000 in
set_option maxRecDepth 100000 in
theorem w_X5_befalls_123 {K : Kx} {r9 : Unit} {L9 : LH} (hK : Ok K cX5_befalls 3 RX5 1 21) (hF : Fin K none none L9) {rec12 : Nat → Int32 → Int32 → LH → Rs Unit} (hrec12 : ∀ {j0 : Nat} {x1 : Int32} {x2 : Int32} {L : LH} {mc ms : Nat}, rec12 j0 x1 x2 L = some (r9, L9, mc, ms) → AW K L mc ms 12 [(0, aR (some j0)), (1, aI x1), (2, aI x2)] []) {j0 : Nat} {x1 : Int32} {x2 : Int32} {sx0 : Int32} {sr1 : Option Nat} {L : LH} {mc ms : Nat} (h : f_X5_befalls_123 rec12 j0 x1 x2 sx0 sr1 L = some (r9, L9, mc, ms)) : AW K L mc ms 123 [(0, aR (some j0)), (1, aI x1), (2, aI x2)] [aI sx0, aR sr1] := by
  unfold f_X5_befalls_123 at h
  obtain _ | j1 := sr1
  · exact (fw_nn_no h).elim
  replace h := fw_nn_so h
  refine aw_pI hK fw_c7 19 (by decide) rfl q1212 (fun _ h9 => h9) rfl rfl rfl dX5_befalls_123 h (fun L2 h => ?_)
  exact w_X5_befalls_126 hK hF (fun h => hrec12 h) h
set_option maxHeartbeats 4000000 in
set_option maxRecDepth 100000 in
theorem w_X5_befalls_100 {K : Kx} {r9 : Unit} {L9 : LH} (hK : Ok K cX5_befalls 3 RX5 1 21) (hF : Fin K none none L9) {rec12 : Nat → Int32 → Int32 → LH → Rs Unit} (hrec12 : ∀ {j0 : Nat} {x1 : Int32} {x2 : Int32} {L : LH} {mc ms : Nat}, rec12 j0 x1 x2 L = some (r9, L9, mc, ms) → AW K L mc ms 12 [(0, aR (some j0)), (1, aI x1), (2, aI x2)] []) {j0 : Nat} {x1 : Int32} {x2 : Int32} {sx0 : Int32} {sx1 : Int32} {sr2 : Option Nat} {L : LH} {mc ms : Nat} (h : f_X5_befalls_100 rec12 j0 x1 x2 sx0 sx1 sr2 L = some (r9, L9, mc, ms)) : AW K L mc ms 100 [(0, aR (some j0)), (1, aI x1), (2, aI x2)] [aI sx0, aI sx1, aR sr2] := by
  unfold f_X5_befalls_100 at h
  refine aw_iadd hK dX5_befalls_100 ?_
  obtain _ | j1 := sr2
  · exact (fw_nn_no h).elim
  replace h := fw_nn_so h
  refine aw_pI hK fw_c7 18 (by decide) rfl q1211 (fun _ h9 => h9) rfl rfl rfl dX5_befalls_101 h (fun L2 h => ?_)
  refine aw_aload_n hK 0 dX5_befalls_104 rfl rfl ?_
  refine aw_aload_n hK 0 dX5_befalls_105 rfl rfl ?_
  refine aw_gR hK fw_c7 10 (by decide) rfl q1203 (fun _ h9 => h9) dX5_befalls_106 h (fun r3 h => ?_)
  refine aw_iload_n hK 2 dX5_befalls_109 rfl rfl ?_
  obtain _ | j4 := r3
  · exact (fw_nn_no h).elim
  replace h := fw_nn_so h
  refine aw_iald hK dX5_befalls_110 h (fun v5 h => ?_)
  refine aw_iconst (v := (nI 2)) hK dX5_befalls_111 rfl ?_
  refine aw_icmp_ne (tgt := 119) hK dX5_befalls_112 (by decide) h (fun h => ?_) (fun h => ?_)
  · refine aw_aload_n hK 0 dX5_befalls_119 rfl rfl ?_
    refine aw_gI hK fw_c7 19 (by decide) rfl q1212 (fun _ h9 => h9) dX5_befalls_120 h (fun v6 h => ?_)
    exact w_X5_befalls_123 hK hF (fun h => hrec12 h) h
  · refine aw_iconst (v := (nI 1)) hK dX5_befalls_115 rfl ?_
    refine aw_goto (tgt := 123) hK dX5_befalls_116 (by decide) ?_
    exact w_X5_befalls_123 hK hF (fun h => hrec12 h) h
set_option maxHeartbeats 4000000 in
set_option maxRecDepth 100000 in
theorem w_X5_befalls_99 {K : Kx} {r9 : Unit} {L9 : LH} (hK : Ok K cX5_befalls 3 RX5 1 21) (hF : Fin K none none L9) {rec12 : Nat → Int32 → Int32 → LH → Rs Unit} (hrec12 : ∀ {j0 : Nat} {x1 : Int32} {x2 : Int32} {L : LH} {mc ms : Nat}, rec12 j0 x1 x2 L = some (r9, L9, mc, ms) → AW K L mc ms 12 [(0, aR (some j0)), (1, aI x1), (2, aI x2)] []) {j0 : Nat} {x1 : Int32} {x2 : Int32} {sx0 : Int32} {sr1 : Option Nat} {L : LH} {mc ms : Nat} (h : f_X5_befalls_99 rec12 j0 x1 x2 sx0 sr1 L = some (r9, L9, mc, ms)) : AW K L mc ms 99 [(0, aR (some j0)), (1, aI x1), (2, aI x2)] [aI sx0, aR sr1] := by
  unfold f_X5_befalls_99 at h
  refine aw_iconst (v := (nI 0)) hK dX5_befalls_99 rfl ?_
  exact w_X5_befalls_100 hK hF (fun h => hrec12 h) h
set_option maxHeartbeats 4000000 in
set_option maxRecDepth 100000 in
theorem w_X5_befalls_67 {K : Kx} {r9 : Unit} {L9 : LH} (hK : Ok K cX5_befalls 3 RX5 1 21) (hF : Fin K none none L9) {rec12 : Nat → Int32 → Int32 → LH → Rs Unit} (hrec12 : ∀ {j0 : Nat} {x1 : Int32} {x2 : Int32} {L : LH} {mc ms : Nat}, rec12 j0 x1 x2 L = some (r9, L9, mc, ms) → AW K L mc ms 12 [(0, aR (some j0)), (1, aI x1), (2, aI x2)] []) {j0 : Nat} {x1 : Int32} {x2 : Int32} {sx0 : Int32} {sx1 : Int32} {sr2 : Option Nat} {L : LH} {mc ms : Nat} (h : f_X5_befalls_67 rec12 j0 x1 x2 sx0 sx1 sr2 L = some (r9, L9, mc, ms)) : AW K L mc ms 67 [(0, aR (some j0)), (1, aI x1), (2, aI x2)] [aI sx0, aI sx1, aR sr2] := by
  unfold f_X5_befalls_67 at h
  refine aw_ior hK dX5_befalls_67 ?_
  obtain _ | j1 := sr2
  · exact (fw_nn_no h).elim
  replace h := fw_nn_so h
  refine aw_pI hK fw_c7 20 (by decide) rfl q1213 (fun _ h9 => h9) rfl rfl rfl dX5_befalls_68 h (fun L2 h => ?_)
  refine aw_aload_n hK 0 dX5_befalls_71 rfl rfl ?_
  refine aw_dup hK dX5_befalls_72 rfl ?_
  refine aw_gI hK fw_c7 18 (by decide) rfl q1211 (fun _ h9 => h9) dX5_befalls_73 h (fun v3 h => ?_)
  refine aw_aload_n hK 0 dX5_befalls_76 rfl rfl ?_
  refine aw_gR hK fw_c7 10 (by decide) rfl q1203 (fun _ h9 => h9) dX5_befalls_77 h (fun r4 h => ?_)
  refine aw_iload_n hK 2 dX5_befalls_80 rfl rfl ?_
  obtain _ | j5 := r4
  · exact (fw_nn_no h).elim
  replace h := fw_nn_so h
  refine aw_iald hK dX5_befalls_81 h (fun v6 h => ?_)
  refine aw_iconst (v := (nI 1)) hK dX5_befalls_82 rfl ?_
  refine aw_icmp_ne (tgt := 99) hK dX5_befalls_83 (by decide) h (fun h => ?_) (fun h => ?_)
  · exact w_X5_befalls_99 hK hF (fun h => hrec12 h) h
  · refine aw_aload_n hK 0 dX5_befalls_86 rfl rfl ?_
    refine aw_gI hK fw_c7 18 (by decide) rfl q1211 (fun _ h9 => h9) dX5_befalls_87 h (fun v7 h => ?_)
    refine aw_bipush (v := (nI 9)) hK dX5_befalls_90 rfl ?_
    refine aw_icmp_ge (tgt := 99) hK dX5_befalls_92 (by decide) h (fun h => ?_) (fun h => ?_)
    · exact w_X5_befalls_99 hK hF (fun h => hrec12 h) h
    · refine aw_iconst (v := (nI 1)) hK dX5_befalls_95 rfl ?_
      refine aw_goto (tgt := 100) hK dX5_befalls_96 (by decide) ?_
      exact w_X5_befalls_100 hK hF (fun h => hrec12 h) h
set_option maxHeartbeats 4000000 in
set_option maxRecDepth 100000 in
theorem w_X5_befalls_12 {K : Kx} {r9 : Unit} {L9 : LH} (hK : Ok K cX5_befalls 3 RX5 1 21) (hF : Fin K none none L9) : ∀ {n : Nat} {j0 : Nat} {x1 : Int32} {x2 : Int32} {L : LH} {mc ms : Nat}, f_X5_befalls_12 n j0 x1 x2 L = some (r9, L9, mc, ms) → AW K L mc ms 12 [(0, aR (some j0)), (1, aI x1), (2, aI x2)] [] := by
  intro n
  induction n with
  | zero =>
    intro j0 x1 x2 L mc ms h
    have h : (none : Rs Unit) = some (r9, L9, mc, ms) := h
    cases h
  | succ n ih =>
    intro j0 x1 x2 L mc ms h
    unfold f_X5_befalls_12 at h
    refine aw_iload_n hK 2 dX5_befalls_12 rfl rfl ?_
    refine aw_aload_n hK 0 dX5_befalls_13 rfl rfl ?_
    refine aw_gI hK fw_c7 9 (by decide) rfl q1202 (fun _ h9 => h9) dX5_befalls_14 h (fun v1 h => ?_)
    refine aw_icmp_ge (tgt := 132) hK dX5_befalls_17 (by decide) h (fun h => ?_) (fun h => ?_)
    · exact aw_vret hK dX5_befalls_132 h hF
    · refine aw_aload_n hK 0 dX5_befalls_20 rfl rfl ?_
      refine aw_gR hK fw_c7 11 (by decide) rfl q1204 (fun _ h9 => h9) dX5_befalls_21 h (fun r2 h => ?_)
      refine aw_iload_n hK 2 dX5_befalls_24 rfl rfl ?_
      obtain _ | j3 := r2
      · exact (fw_nn_no h).elim
      replace h := fw_nn_so h
      refine aw_iald hK dX5_befalls_25 h (fun v4 h => ?_)
      refine aw_iload_n hK 1 dX5_befalls_26 rfl rfl ?_
      refine aw_icmp_ne (tgt := 126) hK dX5_befalls_27 (by decide) h (fun h => ?_) (fun h => ?_)
      · exact w_X5_befalls_126 hK hF (fun h => ih h) h
      · refine aw_aload_n hK 0 dX5_befalls_30 rfl rfl ?_
        refine aw_gI hK fw_c7 14 (by decide) rfl q1207 (fun _ h9 => h9) dX5_befalls_31 h (fun v5 h => ?_)
        refine aw_iload_n hK 2 dX5_befalls_34 rfl rfl ?_
        refine aw_callS_i (n := 2) hK (fun _ _ _ _ q => ct_X5_isIn hK.zk q) (lw_S q1474 q1475 q102 q1476) (by decide +kernel) (by decide) rfl rfl (Nat.le_of_ble_eq_true rfl) dX5_befalls_35 h (fun v7 L6 _ _ h => ?_)
        refine aw_if_ne (tgt := 126) hK dX5_befalls_38 (by decide) h (fun h => ?_) (fun h => ?_)
        · exact w_X5_befalls_126 hK hF (fun h => ih h) h
        · refine aw_aload_n hK 0 dX5_befalls_41 rfl rfl ?_
          refine aw_dup hK dX5_befalls_42 rfl ?_
          refine aw_gI hK fw_c7 20 (by decide) rfl q1213 (fun _ h9 => h9) dX5_befalls_43 h (fun v8 h => ?_)
          refine aw_aload_n hK 0 dX5_befalls_46 rfl rfl ?_
          refine aw_gR hK fw_c7 10 (by decide) rfl q1203 (fun _ h9 => h9) dX5_befalls_47 h (fun r9 h => ?_)
          refine aw_iload_n hK 2 dX5_befalls_50 rfl rfl ?_
          obtain _ | j10 := r9
          · exact (fw_nn_no h).elim
          replace h := fw_nn_so h
          refine aw_iald hK dX5_befalls_51 h (fun v11 h => ?_)
          refine aw_if_ne (tgt := 66) hK dX5_befalls_52 (by decide) h (fun h => ?_) (fun h => ?_)
          · refine aw_iconst (v := (nI 0)) hK dX5_befalls_66 rfl ?_
            exact w_X5_befalls_67 hK hF (fun h => ih h) h
          · refine aw_iconst (v := (nI 1)) hK dX5_befalls_55 rfl ?_
            refine aw_aload_n hK 0 dX5_befalls_56 rfl rfl ?_
            refine aw_gR hK fw_c7 12 (by decide) rfl q1205 (fun _ h9 => h9) dX5_befalls_57 h (fun r12 h => ?_)
            refine aw_iload_n hK 2 dX5_befalls_60 rfl rfl ?_
            obtain _ | j13 := r12
            · exact (fw_nn_no h).elim
            replace h := fw_nn_so h
            refine aw_iald hK dX5_befalls_61 h (fun v14 h => ?_)
            refine aw_ishl hK dX5_befalls_62 ?_
            refine aw_goto (tgt := 67) hK dX5_befalls_63 (by decide) ?_
            exact w_X5_befalls_67 hK hF (fun h => ih h) h
set_option maxHeartbeats 4000000 in
set_option maxRecDepth 100000 in
theorem w_X5_befalls_0 {K : Kx} {r9 : Unit} {L9 : LH} (hK : Ok K cX5_befalls 3 RX5 1 21) (hF : Fin K none none L9) {j0 : Nat} {x1 : Int32} {L : LH} {mc ms : Nat} (h : f_X5_befalls j0 x1 L = some (r9, L9, mc, ms)) : AW K L mc ms 0 [(0, aR (some j0)), (1, aI x1)] [] := by
  unfold f_X5_befalls at h
  refine aw_aload_n hK 0 dX5_befalls_0 rfl rfl ?_
  refine aw_iconst (v := (nI 0)) hK dX5_befalls_1 rfl ?_
  refine aw_pI hK fw_c7 19 (by decide) rfl q1212 (fun _ h9 => h9) rfl rfl rfl dX5_befalls_2 h (fun L1 h => ?_)
  refine aw_aload_n hK 0 dX5_befalls_5 rfl rfl ?_
  refine aw_iconst (v := (nI 0)) hK dX5_befalls_6 rfl ?_
  refine aw_pI hK fw_c7 20 (by decide) rfl q1213 (fun _ h9 => h9) rfl rfl rfl dX5_befalls_7 h (fun L2 h => ?_)
  refine aw_iconst (v := (nI 0)) hK dX5_befalls_10 rfl ?_
  refine aw_istore_n (lv' := [(2, aI (nI 0)), (0, aR (some j0)), (1, aI x1)]) hK dX5_befalls_11 rfl (by decide) rfl ?_
  exact aw_sub [1, 2, 0] rfl (w_X5_befalls_12 hK hF h)
theorem ct_X5_befalls {Z : fw_ZT} (hZ : fw_Zok Z) {j0 : Nat} {x1 : Int32} {L : LH} {r9 : Unit} {L9 : LH} {mc ms : Nat} (h : f_X5_befalls j0 x1 L = some (r9, L9, mc, ms)) : Ct Z yX5_befalls (ws_ yX5_befalls cX5_befalls 3 none) 1 21 [aR (some j0), aI x1] L none L9 mc ms :=
  ct_of (own := RX5) hZ (by decide +kernel) rfl (Nat.le_of_ble_eq_true rfl) (fun K _ hK hF hini => w_X5_befalls_0 hK hF h)
def f_X5_pullsOne_91 (j0 : Nat) (x1 : Int32) (sx0 : Int32) (sx1 : Int32) (sr2 : Option Nat) (L : LH) : Rs Unit :=
  fw_nn sr2 fun j1 =>
  fw_wr 100 L j1 sx1 sx0 fun L2 =>
  fw_gR 8 L2 j0 26 fun r3 =>
  fw_nn r3 fun j4 =>
  fw_rd 100 L2 j4 x1 fun v5 =>
  fw_gR 8 L2 j0 27 fun r6 =>
  fw_nn r6 fun j7 =>
  fw_rd 100 L2 j7 x1 fun v8 =>
  fw_wr 100 L2 j4 x1 (v5 + v8) fun L9 =>
  fw_gR 8 L9 j0 28 fun r10 =>
  fw_nn r10 fun j11 =>
  fw_rd 100 L9 j11 (x1 / (nI 8)) fun v12 =>
  fw_gR 8 L9 j0 27 fun r13 =>
  fw_nn r13 fun j14 =>
  fw_rd 100 L9 j14 x1 fun v15 =>
  fw_wr 100 L9 j11 (x1 / (nI 8)) (v12 + v15) fun L16 =>
  some ((), L16, 0, 0)
def f_X5_pullsOne_68 (j0 : Nat) (x1 : Int32) (x4 : Int32) (sx0 : Int32) (L : LH) : Rs Unit :=
  fw_gR 8 L j0 27 fun r1 =>
  if x4 ≤ sx0 then (
    f_X5_pullsOne_91 j0 x1 (nI 0) x1 r1 L
  ) else (
    f_X5_pullsOne_91 j0 x1 (x4 - sx0) x1 r1 L
  )
def f_X5_pullsOne_48 (j0 : Nat) (x1 : Int32) (sx0 : Int32) (L : LH) : Rs Unit :=
  fw_gR 8 L j0 3 fun r1 =>
  fw_nn r1 fun j2 =>
  fw_rd 100 L j2 x1 fun v3 =>
  if v3 = (nI 2) then (
    f_X5_pullsOne_68 j0 x1 sx0 (nI 0) L
  ) else (
    fw_gI 8 L j0 18 fun v4 =>
    f_X5_pullsOne_68 j0 x1 sx0 v4 L
  )
def f_X5_pullsOne_26 (j0 : Nat) (x1 : Int32) (sx0 : Int32) (L : LH) : Rs Unit :=
  fw_gI 8 L j0 20 fun v1 =>
  fw_cl (f_X5_isIn v1 x1 L) fun v3 L2 =>
  if v3 = 0 then (
    fw_is 8 L2 j0 <|
    fw_cl (f_X5_strength j0 x1 sx0 L2) fun v5 L4 =>
    f_X5_pullsOne_48 j0 x1 v5 L4
  ) else (
    f_X5_pullsOne_48 j0 x1 (nI 0) L2
  )
def f_X5_pullsOne (j0 : Nat) (x1 : Int32) (x2 : Int32) (L : LH) : Rs Unit :=
  fw_gI 8 L j0 19 fun v1 =>
  if v1 = (nI 1) then (
    f_X5_pullsOne_26 j0 x1 (nI 0) L
  ) else (
    fw_gR 8 L j0 13 fun r2 =>
    fw_nn r2 fun j3 =>
    fw_rd 100 L j3 (((nI 24) * (x1 / (nI 8))) + x2) fun v4 =>
    f_X5_pullsOne_26 j0 x1 v4 L
  )
set_option maxHeartbeats 4000000 in
set_option maxRecDepth 100000 in
theorem w_X5_pullsOne_91 {K : Kx} {r9 : Unit} {L9 : LH} (hK : Ok K cX5_pullsOne 6 RX5 1 24) (hF : Fin K none none L9) {j0 : Nat} {x1 : Int32} {sx0 : Int32} {sx1 : Int32} {sr2 : Option Nat} {L : LH} {mc ms : Nat} (h : f_X5_pullsOne_91 j0 x1 sx0 sx1 sr2 L = some (r9, L9, mc, ms)) : AW K L mc ms 91 [(0, aR (some j0)), (1, aI x1)] [aI sx0, aI sx1, aR sr2] := by
  unfold f_X5_pullsOne_91 at h
  obtain _ | j1 := sr2
  · exact (fw_nn_no h).elim
  replace h := fw_nn_so h
  refine aw_iast hK dX5_pullsOne_91 h (fun L2 h => ?_)
  refine aw_aload_n hK 0 dX5_pullsOne_92 rfl rfl ?_
  refine aw_gR hK fw_c7 26 (by decide) rfl q1219 (fun _ h9 => h9) dX5_pullsOne_93 h (fun r3 h => ?_)
  refine aw_iload_n hK 1 dX5_pullsOne_96 rfl rfl ?_
  refine aw_dup2 hK dX5_pullsOne_97 rfl rfl ?_
  obtain _ | j4 := r3
  · exact (fw_nn_no h).elim
  replace h := fw_nn_so h
  refine aw_iald hK dX5_pullsOne_98 h (fun v5 h => ?_)
  refine aw_aload_n hK 0 dX5_pullsOne_99 rfl rfl ?_
  refine aw_gR hK fw_c7 27 (by decide) rfl q1220 (fun _ h9 => h9) dX5_pullsOne_100 h (fun r6 h => ?_)
  refine aw_iload_n hK 1 dX5_pullsOne_103 rfl rfl ?_
  obtain _ | j7 := r6
  · exact (fw_nn_no h).elim
  replace h := fw_nn_so h
  refine aw_iald hK dX5_pullsOne_104 h (fun v8 h => ?_)
  refine aw_iadd hK dX5_pullsOne_105 ?_
  refine aw_iast hK dX5_pullsOne_106 h (fun L9 h => ?_)
  refine aw_aload_n hK 0 dX5_pullsOne_107 rfl rfl ?_
  refine aw_gR hK fw_c7 28 (by decide) rfl q1221 (fun _ h9 => h9) dX5_pullsOne_108 h (fun r10 h => ?_)
  refine aw_iload_n hK 1 dX5_pullsOne_111 rfl rfl ?_
  refine aw_bipush (v := (nI 8)) hK dX5_pullsOne_112 rfl ?_
  refine aw_idiv hK dX5_pullsOne_114 (by decide) ?_
  refine aw_dup2 hK dX5_pullsOne_115 rfl rfl ?_
  obtain _ | j11 := r10
  · exact (fw_nn_no h).elim
  replace h := fw_nn_so h
  refine aw_iald hK dX5_pullsOne_116 h (fun v12 h => ?_)
  refine aw_aload_n hK 0 dX5_pullsOne_117 rfl rfl ?_
  refine aw_gR hK fw_c7 27 (by decide) rfl q1220 (fun _ h9 => h9) dX5_pullsOne_118 h (fun r13 h => ?_)
  refine aw_iload_n hK 1 dX5_pullsOne_121 rfl rfl ?_
  obtain _ | j14 := r13
  · exact (fw_nn_no h).elim
  replace h := fw_nn_so h
  refine aw_iald hK dX5_pullsOne_122 h (fun v15 h => ?_)
  refine aw_iadd hK dX5_pullsOne_123 ?_
  refine aw_iast hK dX5_pullsOne_124 h (fun L16 h => ?_)
  exact aw_vret hK dX5_pullsOne_125 h hF
set_option maxHeartbeats 4000000 in
set_option maxRecDepth 100000 in
theorem w_X5_pullsOne_68 {K : Kx} {r9 : Unit} {L9 : LH} (hK : Ok K cX5_pullsOne 6 RX5 1 24) (hF : Fin K none none L9) {j0 : Nat} {x1 : Int32} {x4 : Int32} {sx0 : Int32} {L : LH} {mc ms : Nat} (h : f_X5_pullsOne_68 j0 x1 x4 sx0 L = some (r9, L9, mc, ms)) : AW K L mc ms 68 [(0, aR (some j0)), (1, aI x1), (4, aI x4)] [aI sx0] := by
  unfold f_X5_pullsOne_68 at h
  refine aw_istore (lv' := [(5, aI sx0), (0, aR (some j0)), (1, aI x1), (4, aI x4)]) hK dX5_pullsOne_68 (by decide) rfl ?_
  refine aw_aload_n hK 1 dX5_pullsOne_70 rfl rfl ?_
  refine aw_gR hK fw_c7 27 (by decide) rfl q1220 (fun _ h9 => h9) dX5_pullsOne_71 h (fun r1 h => ?_)
  refine aw_iload_n hK 2 dX5_pullsOne_74 rfl rfl ?_
  refine aw_iload hK 3 dX5_pullsOne_75 rfl ?_
  refine aw_iload hK 0 dX5_pullsOne_77 rfl ?_
  refine aw_icmp_le (tgt := 90) hK dX5_pullsOne_79 (by decide) h (fun h => ?_) (fun h => ?_)
  · refine aw_iconst (v := (nI 0)) hK dX5_pullsOne_90 rfl ?_
    exact aw_sub [1, 2] rfl (w_X5_pullsOne_91 hK hF h)
  · refine aw_iload hK 3 dX5_pullsOne_82 rfl ?_
    refine aw_iload hK 0 dX5_pullsOne_84 rfl ?_
    refine aw_isub hK dX5_pullsOne_86 ?_
    refine aw_goto (tgt := 91) hK dX5_pullsOne_87 (by decide) ?_
    exact aw_sub [1, 2] rfl (w_X5_pullsOne_91 hK hF h)
set_option maxHeartbeats 4000000 in
set_option maxRecDepth 100000 in
theorem w_X5_pullsOne_48 {K : Kx} {r9 : Unit} {L9 : LH} (hK : Ok K cX5_pullsOne 6 RX5 1 24) (hF : Fin K none none L9) {j0 : Nat} {x1 : Int32} {sx0 : Int32} {L : LH} {mc ms : Nat} (h : f_X5_pullsOne_48 j0 x1 sx0 L = some (r9, L9, mc, ms)) : AW K L mc ms 48 [(0, aR (some j0)), (1, aI x1)] [aI sx0] := by
  unfold f_X5_pullsOne_48 at h
  refine aw_istore (lv' := [(4, aI sx0), (0, aR (some j0)), (1, aI x1)]) hK dX5_pullsOne_48 (by decide) rfl ?_
  refine aw_aload_n hK 1 dX5_pullsOne_50 rfl rfl ?_
  refine aw_gR hK fw_c7 3 (by decide) rfl q1196 (fun _ h9 => h9) dX5_pullsOne_51 h (fun r1 h => ?_)
  refine aw_iload_n hK 2 dX5_pullsOne_54 rfl rfl ?_
  obtain _ | j2 := r1
  · exact (fw_nn_no h).elim
  replace h := fw_nn_so h
  refine aw_iald hK dX5_pullsOne_55 h (fun v3 h => ?_)
  refine aw_iconst (v := (nI 2)) hK dX5_pullsOne_56 rfl ?_
  refine aw_icmp_ne (tgt := 64) hK dX5_pullsOne_57 (by decide) h (fun h => ?_) (fun h => ?_)
  · refine aw_aload_n hK 1 dX5_pullsOne_64 rfl rfl ?_
    refine aw_gI hK fw_c7 18 (by decide) rfl q1211 (fun _ h9 => h9) dX5_pullsOne_65 h (fun v4 h => ?_)
    exact aw_sub [1, 2, 0] rfl (w_X5_pullsOne_68 hK hF h)
  · refine aw_iconst (v := (nI 0)) hK dX5_pullsOne_60 rfl ?_
    refine aw_goto (tgt := 68) hK dX5_pullsOne_61 (by decide) ?_
    exact aw_sub [1, 2, 0] rfl (w_X5_pullsOne_68 hK hF h)
set_option maxHeartbeats 4000000 in
set_option maxRecDepth 100000 in
theorem w_X5_pullsOne_26 {K : Kx} {r9 : Unit} {L9 : LH} (hK : Ok K cX5_pullsOne 6 RX5 1 24) (hF : Fin K none none L9) {j0 : Nat} {x1 : Int32} {sx0 : Int32} {L : LH} {mc ms : Nat} (h : f_X5_pullsOne_26 j0 x1 sx0 L = some (r9, L9, mc, ms)) : AW K L mc ms 26 [(0, aR (some j0)), (1, aI x1)] [aI sx0] := by
  unfold f_X5_pullsOne_26 at h
  refine aw_istore_n (lv' := [(3, aI sx0), (0, aR (some j0)), (1, aI x1)]) hK dX5_pullsOne_26 rfl (by decide) rfl ?_
  refine aw_aload_n hK 1 dX5_pullsOne_27 rfl rfl ?_
  refine aw_gI hK fw_c7 20 (by decide) rfl q1213 (fun _ h9 => h9) dX5_pullsOne_28 h (fun v1 h => ?_)
  refine aw_iload_n hK 2 dX5_pullsOne_31 rfl rfl ?_
  refine aw_callS_i (n := 2) hK (fun _ _ _ _ q => ct_X5_isIn hK.zk q) (lw_S q1474 q1475 q102 q1476) (by decide +kernel) (by decide) rfl rfl (Nat.le_of_ble_eq_true rfl) dX5_pullsOne_32 h (fun v3 L2 _ _ h => ?_)
  refine aw_if_eq (tgt := 42) hK dX5_pullsOne_35 (by decide) h (fun h => ?_) (fun h => ?_)
  · refine aw_aload_n hK 1 dX5_pullsOne_42 rfl rfl ?_
    refine aw_iload_n hK 2 dX5_pullsOne_43 rfl rfl ?_
    refine aw_iload_n hK 0 dX5_pullsOne_44 rfl rfl ?_
    obtain ⟨hj, h⟩ := fw_is_h h
    refine aw_callV_i (n := 2) hK fw_c7 hj (fun _ _ _ _ q => ct_X5_strength hK.zk q) (lw_V q1481 q1483 qs63 q102 q1484) (by decide +kernel) (by decide) rfl rfl (Nat.le_of_ble_eq_true rfl) dX5_pullsOne_45 h (fun v5 L4 _ _ h => ?_)
    exact aw_sub [1, 2] rfl (w_X5_pullsOne_48 hK hF h)
  · refine aw_iconst (v := (nI 0)) hK dX5_pullsOne_38 rfl ?_
    refine aw_goto (tgt := 48) hK dX5_pullsOne_39 (by decide) ?_
    exact aw_sub [1, 2] rfl (w_X5_pullsOne_48 hK hF h)
set_option maxHeartbeats 4000000 in
set_option maxRecDepth 100000 in
theorem w_X5_pullsOne_0 {K : Kx} {r9 : Unit} {L9 : LH} (hK : Ok K cX5_pullsOne 6 RX5 1 24) (hF : Fin K none none L9) {j0 : Nat} {x1 : Int32} {x2 : Int32} {L : LH} {mc ms : Nat} (h : f_X5_pullsOne j0 x1 x2 L = some (r9, L9, mc, ms)) : AW K L mc ms 0 [(0, aR (some j0)), (1, aI x1), (2, aI x2)] [] := by
  unfold f_X5_pullsOne at h
  refine aw_aload_n hK 0 dX5_pullsOne_0 rfl rfl ?_
  refine aw_gI hK fw_c7 19 (by decide) rfl q1212 (fun _ h9 => h9) dX5_pullsOne_1 h (fun v1 h => ?_)
  refine aw_iconst (v := (nI 1)) hK dX5_pullsOne_4 rfl ?_
  refine aw_icmp_ne (tgt := 12) hK dX5_pullsOne_5 (by decide) h (fun h => ?_) (fun h => ?_)
  · refine aw_aload_n hK 0 dX5_pullsOne_12 rfl rfl ?_
    refine aw_gR hK fw_c7 13 (by decide) rfl q1206 (fun _ h9 => h9) dX5_pullsOne_13 h (fun r2 h => ?_)
    refine aw_bipush (v := (nI 24)) hK dX5_pullsOne_16 rfl ?_
    refine aw_iload_n hK 1 dX5_pullsOne_18 rfl rfl ?_
    refine aw_bipush (v := (nI 8)) hK dX5_pullsOne_19 rfl ?_
    refine aw_idiv hK dX5_pullsOne_21 (by decide) ?_
    refine aw_imul hK dX5_pullsOne_22 ?_
    refine aw_iload_n hK 2 dX5_pullsOne_23 rfl rfl ?_
    refine aw_iadd hK dX5_pullsOne_24 ?_
    obtain _ | j3 := r2
    · exact (fw_nn_no h).elim
    replace h := fw_nn_so h
    refine aw_iald hK dX5_pullsOne_25 h (fun v4 h => ?_)
    exact aw_sub [0, 1] rfl (w_X5_pullsOne_26 hK hF h)
  · refine aw_iconst (v := (nI 0)) hK dX5_pullsOne_8 rfl ?_
    refine aw_goto (tgt := 26) hK dX5_pullsOne_9 (by decide) ?_
    exact aw_sub [0, 1] rfl (w_X5_pullsOne_26 hK hF h)
theorem ct_X5_pullsOne {Z : fw_ZT} (hZ : fw_Zok Z) {j0 : Nat} {x1 : Int32} {x2 : Int32} {L : LH} {r9 : Unit} {L9 : LH} {mc ms : Nat} (h : f_X5_pullsOne j0 x1 x2 L = some (r9, L9, mc, ms)) : Ct Z yX5_pullsOne (ws_ yX5_pullsOne cX5_pullsOne 6 none) 1 24 [aR (some j0), aI x1, aI x2] L none L9 mc ms :=
  ct_of (own := RX5) hZ (by decide +kernel) rfl (Nat.le_of_ble_eq_true rfl) (fun K _ hK hF hini => w_X5_pullsOne_0 hK hF h)
def f_X5_put (j0 : Nat) (x1 : Int32) (x2 : Int32) (x3 : Int32) (x4 : Int32) (L : LH) : Rs Int32 :=
  fw_cl (f_X5_isSheet x1 L) fun v2 L1 =>
  if v2 = 0 then (
    some ((-nI 2), L1, 0, 0)
  ) else (
    fw_cl (f_X5_in x2 (nI 0) (nI 2) L1) fun v4 L3 =>
    if v4 = 0 then (
      some ((-nI 2), L3, 0, 0)
    ) else (
      fw_is 8 L3 j0 <|
      fw_cl (f_X5_lacks j0 x1 x2 x3 L3) fun v6 L5 =>
      if v6 ≤ 0 then (
        fw_is 8 L5 j0 <|
        fw_cl (f_X5_keep j0 x1 x3 x4 L5) fun _ L7 =>
        some ((nI 1), L7, 0, 0)
      ) else (
        fw_is 8 L5 j0 <|
        fw_cl (f_X5_meets j0 v6 L5) fun v9 L8 =>
        some (v9, L8, 0, 0)
      )
    )
  )
set_option maxHeartbeats 4000000 in
set_option maxRecDepth 100000 in
theorem w_X5_put_0 {K : Kx} {r9 : Int32} {L9 : LH} (hK : Ok K cX5_put 6 RX5 2 45) (hF : Fin K (some (.int)) (some (aI r9)) L9) {j0 : Nat} {x1 : Int32} {x2 : Int32} {x3 : Int32} {x4 : Int32} {L : LH} {mc ms : Nat} (h : f_X5_put j0 x1 x2 x3 x4 L = some (r9, L9, mc, ms)) : AW K L mc ms 0 [(0, aR (some j0)), (1, aI x1), (2, aI x2), (3, aI x3), (4, aI x4)] [] := by
  unfold f_X5_put at h
  refine aw_iload_n hK 1 dX5_put_0 rfl rfl ?_
  refine aw_callS_i (n := 1) hK (fun _ _ _ _ q => ct_X5_isSheet hK.zk q) (lw_S q1434 q1435 q102 q1436) (by decide +kernel) (by decide) rfl rfl (Nat.le_of_ble_eq_true rfl) dX5_put_1 h (fun v2 L1 _ _ h => ?_)
  refine aw_if_eq (tgt := 16) hK dX5_put_4 (by decide) h (fun h => ?_) (fun h => ?_)
  · refine aw_bipush (v := (-nI 2)) hK dX5_put_16 rfl ?_
    exact aw_iret hK dX5_put_18 h hF
  · refine aw_iload_n hK 2 dX5_put_7 rfl rfl ?_
    refine aw_iconst (v := (nI 0)) hK dX5_put_8 rfl ?_
    refine aw_iconst (v := (nI 2)) hK dX5_put_9 rfl ?_
    refine aw_callS_i (n := 3) hK (fun _ _ _ _ q => ct_X5_in hK.zk q) (lw_S q1343 q1344 q102 q1345) (by decide +kernel) (by decide) rfl rfl (Nat.le_of_ble_eq_true rfl) dX5_put_10 h (fun v4 L3 _ _ h => ?_)
    refine aw_if_ne (tgt := 19) hK dX5_put_13 (by decide) h (fun h => ?_) (fun h => ?_)
    · refine aw_aload_n hK 0 dX5_put_19 rfl rfl ?_
      refine aw_iload_n hK 1 dX5_put_20 rfl rfl ?_
      refine aw_iload_n hK 2 dX5_put_21 rfl rfl ?_
      refine aw_iload_n hK 3 dX5_put_22 rfl rfl ?_
      obtain ⟨hj, h⟩ := fw_is_h h
      refine aw_callV_i (n := 3) hK fw_c7 hj (fun _ _ _ _ q => ct_X5_lacks hK.zk q) (lw_V q1669 q1671 qs87 q102 q1672) (by decide +kernel) (by decide) rfl rfl (Nat.le_of_ble_eq_true rfl) dX5_put_23 h (fun v6 L5 _ _ h => ?_)
      refine aw_istore (lv' := [(5, aI v6), (0, aR (some j0)), (1, aI x1), (2, aI x2), (3, aI x3), (4, aI x4)]) hK dX5_put_26 (by decide) rfl ?_
      refine aw_iload hK 0 dX5_put_28 rfl ?_
      refine aw_if_le (tgt := 40) hK dX5_put_30 (by decide) h (fun h => ?_) (fun h => ?_)
      · refine aw_aload_n hK 1 dX5_put_40 rfl rfl ?_
        refine aw_iload_n hK 2 dX5_put_41 rfl rfl ?_
        refine aw_iload_n hK 4 dX5_put_42 rfl rfl ?_
        refine aw_iload hK 5 dX5_put_43 rfl ?_
        obtain ⟨hj, h⟩ := fw_is_h h
        refine aw_callV_v (n := 3) hK fw_c7 hj (fun _ _ _ _ q => ct_X5_keep hK.zk q) (lw_V q1673 q1675 qs88 q102 q1676) (by decide +kernel) (by decide) rfl rfl (Nat.le_of_ble_eq_true rfl) dX5_put_45 h (fun _ L7 _ _ h => ?_)
        refine aw_iconst (v := (nI 1)) hK dX5_put_48 rfl ?_
        exact aw_iret hK dX5_put_49 h hF
      · refine aw_aload_n hK 1 dX5_put_33 rfl rfl ?_
        refine aw_iload hK 0 dX5_put_34 rfl ?_
        obtain ⟨hj, h⟩ := fw_is_h h
        refine aw_callV_i (n := 1) hK fw_c7 hj (fun _ _ _ _ q => ct_X5_meets hK.zk q) (lw_V q1437 q1439 qs54 q102 q1440) (by decide +kernel) (by decide) rfl rfl (Nat.le_of_ble_eq_true rfl) dX5_put_36 h (fun v9 L8 _ _ h => ?_)
        exact aw_iret hK dX5_put_39 h hF
    · refine aw_bipush (v := (-nI 2)) hK dX5_put_16 rfl ?_
      exact aw_iret hK dX5_put_18 h hF
theorem ct_X5_put {Z : fw_ZT} (hZ : fw_Zok Z) {j0 : Nat} {x1 : Int32} {x2 : Int32} {x3 : Int32} {x4 : Int32} {L : LH} {r9 : Int32} {L9 : LH} {mc ms : Nat} (h : f_X5_put j0 x1 x2 x3 x4 L = some (r9, L9, mc, ms)) : Ct Z yX5_put (ws_ yX5_put cX5_put 6 (some (.int))) 2 45 [aR (some j0), aI x1, aI x2, aI x3, aI x4] L (some (aI r9)) L9 mc ms :=
  ct_of (own := RX5) hZ (by decide +kernel) rfl (Nat.le_of_ble_eq_true rfl) (fun K _ hK hF hini => w_X5_put_0 hK hF h)
def f_X5_type_39 (j0 : Nat) (x1 : Int32) (x2 : Int32) (sx0 : Int32) (sx1 : Int32) (L : LH) : Rs Int32 :=
  if sx1 = sx0 then (
    some ((-nI 4), L, 0, 0)
  ) else (
    fw_gR 8 L j0 1 fun r1 =>
    fw_gR 8 L j0 0 fun r2 =>
    fw_nn r2 fun j3 =>
    fw_rd 100 L j3 x1 fun v4 =>
    fw_nn r1 fun j5 =>
    fw_wr 100 L j5 (((nI 31) * x1) + v4) x2 fun L6 =>
    fw_gR 8 L6 j0 0 fun r7 =>
    fw_nn r7 fun j8 =>
    fw_rd 100 L6 j8 x1 fun v9 =>
    fw_wr 100 L6 j8 x1 (v9 + (nI 1)) fun L10 =>
    fw_gR 8 L10 j0 0 fun r11 =>
    fw_nn r11 fun j12 =>
    fw_rd 100 L10 j12 x1 fun v13 =>
    some (v13, L10, 0, 0)
  )
def f_X5_type (j0 : Nat) (x1 : Int32) (x2 : Int32) (L : LH) : Rs Int32 :=
  fw_cl (f_X5_isText x1 L) fun v2 L1 =>
  if v2 = 0 then (
    some ((-nI 2), L1, 0, 0)
  ) else (
    fw_cl (f_X5_in x2 (nI 0) (nI 255) L1) fun v4 L3 =>
    if v4 = 0 then (
      some ((-nI 2), L3, 0, 0)
    ) else (
      fw_gR 8 L3 j0 0 fun r5 =>
      fw_nn r5 fun j6 =>
      fw_rd 100 L3 j6 x1 fun v7 =>
      if (nI 2) ≤ x1 then (
        f_X5_type_39 j0 x1 x2 (nI 24) v7 L3
      ) else (
        f_X5_type_39 j0 x1 x2 (nI 31) v7 L3
      )
    )
  )
set_option maxHeartbeats 4000000 in
set_option maxRecDepth 100000 in
theorem w_X5_type_39 {K : Kx} {r9 : Int32} {L9 : LH} (hK : Ok K cX5_type 3 RX5 2 42) (hF : Fin K (some (.int)) (some (aI r9)) L9) {j0 : Nat} {x1 : Int32} {x2 : Int32} {sx0 : Int32} {sx1 : Int32} {L : LH} {mc ms : Nat} (h : f_X5_type_39 j0 x1 x2 sx0 sx1 L = some (r9, L9, mc, ms)) : AW K L mc ms 39 [(0, aR (some j0)), (1, aI x1), (2, aI x2)] [aI sx0, aI sx1] := by
  unfold f_X5_type_39 at h
  refine aw_icmp_ne (tgt := 45) hK dX5_type_39 (by decide) h (fun h => ?_) (fun h => ?_)
  · refine aw_aload_n hK 0 dX5_type_45 rfl rfl ?_
    refine aw_gR hK fw_c7 1 (by decide) rfl q1194 (fun _ h9 => h9) dX5_type_46 h (fun r1 h => ?_)
    refine aw_bipush (v := (nI 31)) hK dX5_type_49 rfl ?_
    refine aw_iload_n hK 1 dX5_type_51 rfl rfl ?_
    refine aw_imul hK dX5_type_52 ?_
    refine aw_aload_n hK 0 dX5_type_53 rfl rfl ?_
    refine aw_gR hK fw_c7 0 (by decide) rfl q1193 (fun _ h9 => h9) dX5_type_54 h (fun r2 h => ?_)
    refine aw_iload_n hK 1 dX5_type_57 rfl rfl ?_
    obtain _ | j3 := r2
    · exact (fw_nn_no h).elim
    replace h := fw_nn_so h
    refine aw_iald hK dX5_type_58 h (fun v4 h => ?_)
    refine aw_iadd hK dX5_type_59 ?_
    refine aw_iload_n hK 2 dX5_type_60 rfl rfl ?_
    obtain _ | j5 := r1
    · exact (fw_nn_no h).elim
    replace h := fw_nn_so h
    refine aw_iast hK dX5_type_61 h (fun L6 h => ?_)
    refine aw_aload_n hK 0 dX5_type_62 rfl rfl ?_
    refine aw_gR hK fw_c7 0 (by decide) rfl q1193 (fun _ h9 => h9) dX5_type_63 h (fun r7 h => ?_)
    refine aw_iload_n hK 1 dX5_type_66 rfl rfl ?_
    refine aw_dup2 hK dX5_type_67 rfl rfl ?_
    obtain _ | j8 := r7
    · exact (fw_nn_no h).elim
    replace h := fw_nn_so h
    refine aw_iald hK dX5_type_68 h (fun v9 h => ?_)
    refine aw_iconst (v := (nI 1)) hK dX5_type_69 rfl ?_
    refine aw_iadd hK dX5_type_70 ?_
    refine aw_iast hK dX5_type_71 h (fun L10 h => ?_)
    refine aw_aload_n hK 0 dX5_type_72 rfl rfl ?_
    refine aw_gR hK fw_c7 0 (by decide) rfl q1193 (fun _ h9 => h9) dX5_type_73 h (fun r11 h => ?_)
    refine aw_iload_n hK 1 dX5_type_76 rfl rfl ?_
    obtain _ | j12 := r11
    · exact (fw_nn_no h).elim
    replace h := fw_nn_so h
    refine aw_iald hK dX5_type_77 h (fun v13 h => ?_)
    exact aw_iret hK dX5_type_78 h hF
  · refine aw_bipush (v := (-nI 4)) hK dX5_type_42 rfl ?_
    exact aw_iret hK dX5_type_44 h hF
set_option maxHeartbeats 4000000 in
set_option maxRecDepth 100000 in
theorem w_X5_type_0 {K : Kx} {r9 : Int32} {L9 : LH} (hK : Ok K cX5_type 3 RX5 2 42) (hF : Fin K (some (.int)) (some (aI r9)) L9) {j0 : Nat} {x1 : Int32} {x2 : Int32} {L : LH} {mc ms : Nat} (h : f_X5_type j0 x1 x2 L = some (r9, L9, mc, ms)) : AW K L mc ms 0 [(0, aR (some j0)), (1, aI x1), (2, aI x2)] [] := by
  unfold f_X5_type at h
  refine aw_iload_n hK 1 dX5_type_0 rfl rfl ?_
  refine aw_callS_i (n := 1) hK (fun _ _ _ _ q => ct_X5_isText hK.zk q) (lw_S q1340 q1341 q102 q1342) (by decide +kernel) (by decide) rfl rfl (Nat.le_of_ble_eq_true rfl) dX5_type_1 h (fun v2 L1 _ _ h => ?_)
  refine aw_if_eq (tgt := 18) hK dX5_type_4 (by decide) h (fun h => ?_) (fun h => ?_)
  · refine aw_bipush (v := (-nI 2)) hK dX5_type_18 rfl ?_
    exact aw_iret hK dX5_type_20 h hF
  · refine aw_iload_n hK 2 dX5_type_7 rfl rfl ?_
    refine aw_iconst (v := (nI 0)) hK dX5_type_8 rfl ?_
    refine aw_sipush (v := (nI 255)) hK dX5_type_9 rfl ?_
    refine aw_callS_i (n := 3) hK (fun _ _ _ _ q => ct_X5_in hK.zk q) (lw_S q1343 q1344 q102 q1345) (by decide +kernel) (by decide) rfl rfl (Nat.le_of_ble_eq_true rfl) dX5_type_12 h (fun v4 L3 _ _ h => ?_)
    refine aw_if_ne (tgt := 21) hK dX5_type_15 (by decide) h (fun h => ?_) (fun h => ?_)
    · refine aw_aload_n hK 0 dX5_type_21 rfl rfl ?_
      refine aw_gR hK fw_c7 0 (by decide) rfl q1193 (fun _ h9 => h9) dX5_type_22 h (fun r5 h => ?_)
      refine aw_iload_n hK 1 dX5_type_25 rfl rfl ?_
      obtain _ | j6 := r5
      · exact (fw_nn_no h).elim
      replace h := fw_nn_so h
      refine aw_iald hK dX5_type_26 h (fun v7 h => ?_)
      refine aw_iload_n hK 1 dX5_type_27 rfl rfl ?_
      refine aw_iconst (v := (nI 2)) hK dX5_type_28 rfl ?_
      refine aw_icmp_ge (tgt := 37) hK dX5_type_29 (by decide) h (fun h => ?_) (fun h => ?_)
      · refine aw_bipush (v := (nI 24)) hK dX5_type_37 rfl ?_
        exact w_X5_type_39 hK hF h
      · refine aw_bipush (v := (nI 31)) hK dX5_type_32 rfl ?_
        refine aw_goto (tgt := 39) hK dX5_type_34 (by decide) ?_
        exact w_X5_type_39 hK hF h
    · refine aw_bipush (v := (-nI 2)) hK dX5_type_18 rfl ?_
      exact aw_iret hK dX5_type_20 h hF
theorem ct_X5_type {Z : fw_ZT} (hZ : fw_Zok Z) {j0 : Nat} {x1 : Int32} {x2 : Int32} {L : LH} {r9 : Int32} {L9 : LH} {mc ms : Nat} (h : f_X5_type j0 x1 x2 L = some (r9, L9, mc, ms)) : Ct Z yX5_type (ws_ yX5_type cX5_type 3 (some (.int))) 2 42 [aR (some j0), aI x1, aI x2] L (some (aI r9)) L9 mc ms :=
  ct_of (own := RX5) hZ (by decide +kernel) rfl (Nat.le_of_ble_eq_true rfl) (fun K _ hK hF hini => w_X5_type_0 hK hF h)
def f_X5_readsTeam_25 (rec11 : Nat → Int32 → Int32 → Int32 → LH → Rs Int32) (j0 : Nat) (x1 : Int32) (x2 : Int32) (x3 : Int32) (L : LH) : Rs Int32 :=
  fw_is 8 L j0 <|
  fw_cl (f_X5_readsPuller j0 x1 x2 x3 L) fun v2 L1 =>
  if (nI 3) ≤ v2 then (
    fw_gR 8 L1 j0 0 fun r3 =>
    fw_nn r3 fun j4 =>
    fw_rd 100 L1 j4 x1 fun v5 =>
    if (x3 + (nI 3)) = v5 then (
      fw_gR 8 L1 j0 2 fun r8 =>
      fw_nn r8 fun j9 =>
      fw_wr 100 L1 j9 x1 (x2 + (nI 1)) fun L10 =>
      some ((-nI 1), L10, 0, 0)
    ) else (
      fw_is 8 L1 j0 <|
      fw_cl (f_X5_byteAt j0 x1 (x3 + (nI 3)) L1) fun v7 L6 =>
      if v7 = (nI 59) then (
        rec11 j0 x1 (x2 + (nI 1)) ((x3 + (nI 3)) + (nI 1)) L6
      ) else (
        some ((x3 + (nI 3)), L6, 0, 0)
      )
    )
  ) else (
    some ((x3 + v2), L1, 0, 0)
  )
def f_X5_readsTeam_11 : Nat → Nat → Int32 → Int32 → Int32 → LH → Rs Int32
  | 0, _, _, _, _, _ => none
  | n + 1, j0, x1, x2, x3, L =>
    fw_gR 8 L j0 0 fun r1 =>
    fw_nn r1 fun j2 =>
    fw_rd 100 L j2 x1 fun v3 =>
    if x3 < v3 then (
      f_X5_readsTeam_25 (f_X5_readsTeam_11 n) j0 x1 x2 x3 L
    ) else (
      if x3 ≤ 0 then (
        some ((-nI 1), L, 0, 0)
      ) else (
        f_X5_readsTeam_25 (f_X5_readsTeam_11 n) j0 x1 x2 x3 L
      )
    )
def f_X5_readsTeam (j0 : Nat) (x1 : Int32) (L : LH) : Rs Int32 :=
  fw_gR 8 L j0 2 fun r1 =>
  fw_nn r1 fun j2 =>
  fw_wr 100 L j2 x1 (nI 0) fun L3 =>
  f_X5_readsTeam_11 fw_fuel j0 x1 (nI 0) (nI 0) L3
set_option maxHeartbeats 4000000 in
set_option maxRecDepth 100000 in
theorem w_X5_readsTeam_25 {K : Kx} {r9 : Int32} {L9 : LH} (hK : Ok K cX5_readsTeam 5 RX5 2 49) (hF : Fin K (some (.int)) (some (aI r9)) L9) {rec11 : Nat → Int32 → Int32 → Int32 → LH → Rs Int32} (hrec11 : ∀ {j0 : Nat} {x1 : Int32} {x2 : Int32} {x3 : Int32} {L : LH} {mc ms : Nat}, rec11 j0 x1 x2 x3 L = some (r9, L9, mc, ms) → AW K L mc ms 11 [(0, aR (some j0)), (1, aI x1), (2, aI x2), (3, aI x3)] []) {j0 : Nat} {x1 : Int32} {x2 : Int32} {x3 : Int32} {L : LH} {mc ms : Nat} (h : f_X5_readsTeam_25 rec11 j0 x1 x2 x3 L = some (r9, L9, mc, ms)) : AW K L mc ms 25 [(0, aR (some j0)), (1, aI x1), (2, aI x2), (3, aI x3)] [] := by
  unfold f_X5_readsTeam_25 at h
  refine aw_aload_n hK 0 dX5_readsTeam_25 rfl rfl ?_
  refine aw_iload_n hK 1 dX5_readsTeam_26 rfl rfl ?_
  refine aw_iload_n hK 2 dX5_readsTeam_27 rfl rfl ?_
  refine aw_iload_n hK 3 dX5_readsTeam_28 rfl rfl ?_
  obtain ⟨hj, h⟩ := fw_is_h h
  refine aw_callV_i (n := 3) hK fw_c7 hj (fun _ _ _ _ q => ct_X5_readsPuller hK.zk q) (lw_V q1366 q1368 qs46 q102 q1369) (by decide +kernel) (by decide) rfl rfl (Nat.le_of_ble_eq_true rfl) dX5_readsTeam_29 h (fun v2 L1 _ _ h => ?_)
  refine aw_istore (lv' := [(4, aI v2), (0, aR (some j0)), (1, aI x1), (2, aI x2), (3, aI x3)]) hK dX5_readsTeam_32 (by decide) rfl ?_
  refine aw_iload hK 0 dX5_readsTeam_34 rfl ?_
  refine aw_iconst (v := (nI 3)) hK dX5_readsTeam_36 rfl ?_
  refine aw_icmp_ge (tgt := 45) hK dX5_readsTeam_37 (by decide) h (fun h => ?_) (fun h => ?_)
  · refine aw_iinc (v := (x2 + (nI 1))) (lv' := [(2, aI (x2 + (nI 1))), (4, aI v2), (0, aR (some j0)), (1, aI x1), (3, aI x3)]) hK 3 dX5_readsTeam_45 rfl rfl (by decide) rfl ?_
    refine aw_iinc (v := (x3 + (nI 3))) (lv' := [(3, aI (x3 + (nI 3))), (2, aI (x2 + (nI 1))), (4, aI v2), (0, aR (some j0)), (1, aI x1)]) hK 4 dX5_readsTeam_48 rfl rfl (by decide) rfl ?_
    refine aw_iload_n hK 0 dX5_readsTeam_51 rfl rfl ?_
    refine aw_aload_n hK 3 dX5_readsTeam_52 rfl rfl ?_
    refine aw_gR hK fw_c7 0 (by decide) rfl q1193 (fun _ h9 => h9) dX5_readsTeam_53 h (fun r3 h => ?_)
    refine aw_iload_n hK 4 dX5_readsTeam_56 rfl rfl ?_
    obtain _ | j4 := r3
    · exact (fw_nn_no h).elim
    replace h := fw_nn_so h
    refine aw_iald hK dX5_readsTeam_57 h (fun v5 h => ?_)
    refine aw_icmp_ne (tgt := 70) hK dX5_readsTeam_58 (by decide) h (fun h => ?_) (fun h => ?_)
    · refine aw_aload_n hK 3 dX5_readsTeam_70 rfl rfl ?_
      refine aw_iload_n hK 4 dX5_readsTeam_71 rfl rfl ?_
      refine aw_iload_n hK 0 dX5_readsTeam_72 rfl rfl ?_
      obtain ⟨hj, h⟩ := fw_is_h h
      refine aw_callV_i (n := 2) hK fw_c7 hj (fun _ _ _ _ q => ct_X5_byteAt hK.zk q) (lw_V q1370 q1372 qs47 q102 q1373) (by decide +kernel) (by decide) rfl rfl (Nat.le_of_ble_eq_true rfl) dX5_readsTeam_73 h (fun v7 L6 _ _ h => ?_)
      refine aw_bipush (v := (nI 59)) hK dX5_readsTeam_76 rfl ?_
      refine aw_icmp_eq (tgt := 83) hK dX5_readsTeam_78 (by decide) h (fun h => ?_) (fun h => ?_)
      · refine aw_iinc (v := ((x3 + (nI 3)) + (nI 1))) (lv' := [(3, aI ((x3 + (nI 3)) + (nI 1))), (2, aI (x2 + (nI 1))), (4, aI v2), (0, aR (some j0)), (1, aI x1)]) hK 0 dX5_readsTeam_83 rfl rfl (by decide) rfl ?_
        refine aw_goto (tgt := 11) hK dX5_readsTeam_86 (by decide) ?_
        exact aw_sub [3, 4, 1, 0] rfl (hrec11 h)
      · refine aw_iload_n hK 0 dX5_readsTeam_81 rfl rfl ?_
        exact aw_iret hK dX5_readsTeam_82 h hF
    · refine aw_aload_n hK 3 dX5_readsTeam_61 rfl rfl ?_
      refine aw_gR hK fw_c7 2 (by decide) rfl q1195 (fun _ h9 => h9) dX5_readsTeam_62 h (fun r8 h => ?_)
      refine aw_iload_n hK 4 dX5_readsTeam_65 rfl rfl ?_
      refine aw_iload_n hK 1 dX5_readsTeam_66 rfl rfl ?_
      obtain _ | j9 := r8
      · exact (fw_nn_no h).elim
      replace h := fw_nn_so h
      refine aw_iast hK dX5_readsTeam_67 h (fun L10 h => ?_)
      refine aw_iconst (v := (-nI 1)) hK dX5_readsTeam_68 rfl ?_
      exact aw_iret hK dX5_readsTeam_69 h hF
  · refine aw_iload_n hK 4 dX5_readsTeam_40 rfl rfl ?_
    refine aw_iload hK 0 dX5_readsTeam_41 rfl ?_
    refine aw_iadd hK dX5_readsTeam_43 ?_
    exact aw_iret hK dX5_readsTeam_44 h hF
set_option maxHeartbeats 4000000 in
set_option maxRecDepth 100000 in
theorem w_X5_readsTeam_11 {K : Kx} {r9 : Int32} {L9 : LH} (hK : Ok K cX5_readsTeam 5 RX5 2 49) (hF : Fin K (some (.int)) (some (aI r9)) L9) : ∀ {n : Nat} {j0 : Nat} {x1 : Int32} {x2 : Int32} {x3 : Int32} {L : LH} {mc ms : Nat}, f_X5_readsTeam_11 n j0 x1 x2 x3 L = some (r9, L9, mc, ms) → AW K L mc ms 11 [(0, aR (some j0)), (1, aI x1), (2, aI x2), (3, aI x3)] [] := by
  intro n
  induction n with
  | zero =>
    intro j0 x1 x2 x3 L mc ms h
    have h : (none : Rs Int32) = some (r9, L9, mc, ms) := h
    cases h
  | succ n ih =>
    intro j0 x1 x2 x3 L mc ms h
    unfold f_X5_readsTeam_11 at h
    refine aw_iload_n hK 3 dX5_readsTeam_11 rfl rfl ?_
    refine aw_aload_n hK 0 dX5_readsTeam_12 rfl rfl ?_
    refine aw_gR hK fw_c7 0 (by decide) rfl q1193 (fun _ h9 => h9) dX5_readsTeam_13 h (fun r1 h => ?_)
    refine aw_iload_n hK 1 dX5_readsTeam_16 rfl rfl ?_
    obtain _ | j2 := r1
    · exact (fw_nn_no h).elim
    replace h := fw_nn_so h
    refine aw_iald hK dX5_readsTeam_17 h (fun v3 h => ?_)
    refine aw_icmp_lt (tgt := 25) hK dX5_readsTeam_18 (by decide) h (fun h => ?_) (fun h => ?_)
    · exact w_X5_readsTeam_25 hK hF (fun h => ih h) h
    · refine aw_iload_n hK 3 dX5_readsTeam_21 rfl rfl ?_
      refine aw_if_le (tgt := 89) hK dX5_readsTeam_22 (by decide) h (fun h => ?_) (fun h => ?_)
      · refine aw_iconst (v := (-nI 1)) hK dX5_readsTeam_89 rfl ?_
        exact aw_iret hK dX5_readsTeam_90 h hF
      · exact w_X5_readsTeam_25 hK hF (fun h => ih h) h
set_option maxHeartbeats 4000000 in
set_option maxRecDepth 100000 in
theorem w_X5_readsTeam_0 {K : Kx} {r9 : Int32} {L9 : LH} (hK : Ok K cX5_readsTeam 5 RX5 2 49) (hF : Fin K (some (.int)) (some (aI r9)) L9) {j0 : Nat} {x1 : Int32} {L : LH} {mc ms : Nat} (h : f_X5_readsTeam j0 x1 L = some (r9, L9, mc, ms)) : AW K L mc ms 0 [(0, aR (some j0)), (1, aI x1)] [] := by
  unfold f_X5_readsTeam at h
  refine aw_iconst (v := (nI 0)) hK dX5_readsTeam_0 rfl ?_
  refine aw_istore_n (lv' := [(2, aI (nI 0)), (0, aR (some j0)), (1, aI x1)]) hK dX5_readsTeam_1 rfl (by decide) rfl ?_
  refine aw_iconst (v := (nI 0)) hK dX5_readsTeam_2 rfl ?_
  refine aw_istore_n (lv' := [(3, aI (nI 0)), (2, aI (nI 0)), (0, aR (some j0)), (1, aI x1)]) hK dX5_readsTeam_3 rfl (by decide) rfl ?_
  refine aw_aload_n hK 2 dX5_readsTeam_4 rfl rfl ?_
  refine aw_gR hK fw_c7 2 (by decide) rfl q1195 (fun _ h9 => h9) dX5_readsTeam_5 h (fun r1 h => ?_)
  refine aw_iload_n hK 3 dX5_readsTeam_8 rfl rfl ?_
  refine aw_iconst (v := (nI 0)) hK dX5_readsTeam_9 rfl ?_
  obtain _ | j2 := r1
  · exact (fw_nn_no h).elim
  replace h := fw_nn_so h
  refine aw_iast hK dX5_readsTeam_10 h (fun L3 h => ?_)
  exact aw_sub [2, 3, 1, 0] rfl (w_X5_readsTeam_11 hK hF h)
theorem ct_X5_readsTeam {Z : fw_ZT} (hZ : fw_Zok Z) {j0 : Nat} {x1 : Int32} {L : LH} {r9 : Int32} {L9 : LH} {mc ms : Nat} (h : f_X5_readsTeam j0 x1 L = some (r9, L9, mc, ms)) : Ct Z yX5_readsTeam (ws_ yX5_readsTeam cX5_readsTeam 5 (some (.int))) 2 49 [aR (some j0), aI x1] L (some (aI r9)) L9 mc ms :=
  ct_of (own := RX5) hZ (by decide +kernel) rfl (Nat.le_of_ble_eq_true rfl) (fun K _ hK hF hini => w_X5_readsTeam_0 hK hF h)
def f_X5_goesBy_56 (rec21 : Nat → Int32 → Int32 → LH → Rs Unit) (j0 : Nat) (x1 : Int32) (x2 : Int32) (L : LH) : Rs Unit :=
  rec21 j0 x1 (x2 + (nI 1)) L
def f_X5_goesBy_127 : Nat → Nat → Int32 → Int32 → LH → Rs Unit
  | 0, _, _, _, _ => none
  | n + 1, j0, x1, x2, L =>
    if (nI 16) ≤ x2 then (
      some ((), L, 0, 0)
    ) else (
      fw_gR 8 L j0 32 fun r1 =>
      fw_gR 8 L j0 27 fun r2 =>
      fw_nn r2 fun j3 =>
      fw_rd 100 L j3 x2 fun v4 =>
      fw_nn r1 fun j5 =>
      fw_wr 100 L j5 (((nI 16) * x1) + x2) v4 fun L6 =>
      fw_gR 8 L6 j0 33 fun r7 =>
      fw_gR 8 L6 j0 25 fun r8 =>
      fw_nn r8 fun j9 =>
      fw_rd 100 L6 j9 x2 fun v10 =>
      fw_nn r7 fun j11 =>
      fw_wr 100 L6 j11 (((nI 16) * x1) + x2) v10 fun L12 =>
      f_X5_goesBy_127 n j0 x1 (x2 + (nI 1)) L12
    )
def f_X5_goesBy_75 (j0 : Nat) (x1 : Int32) (L : LH) : Rs Unit :=
  fw_gR 8 L j0 29 fun r1 =>
  fw_gI 8 L j0 21 fun v2 =>
  fw_nn r1 fun j3 =>
  fw_wr 100 L j3 x1 v2 fun L4 =>
  fw_gR 8 L4 j0 30 fun r5 =>
  fw_gI 8 L4 j0 18 fun v6 =>
  fw_nn r5 fun j7 =>
  fw_wr 100 L4 j7 x1 v6 fun L8 =>
  fw_gR 8 L8 j0 31 fun r9 =>
  fw_gR 8 L8 j0 28 fun r10 =>
  fw_nn r10 fun j11 =>
  fw_rd 100 L8 j11 (nI 0) fun v12 =>
  fw_nn r9 fun j13 =>
  fw_wr 100 L8 j13 ((nI 2) * x1) v12 fun L14 =>
  fw_gR 8 L14 j0 31 fun r15 =>
  fw_gR 8 L14 j0 28 fun r16 =>
  fw_nn r16 fun j17 =>
  fw_rd 100 L14 j17 (nI 1) fun v18 =>
  fw_nn r15 fun j19 =>
  fw_wr 100 L14 j19 (((nI 2) * x1) + (nI 1)) v18 fun L20 =>
  f_X5_goesBy_127 fw_fuel j0 x1 (nI 0) L20
def f_X5_goesBy_21 : Nat → Nat → Int32 → Int32 → LH → Rs Unit
  | 0, _, _, _, _ => none
  | n + 1, j0, x1, x2, L =>
    if (nI 16) ≤ x2 then (
      fw_gI 8 L j0 22 fun v1 =>
      if v1 = (-nI 1) then (
        fw_is 8 L j0 <|
        fw_cl (f_X5_goes j0 x1 L) fun _ L2 =>
        f_X5_goesBy_75 j0 x1 L2
      ) else (
        f_X5_goesBy_75 j0 x1 L
      )
    ) else (
      fw_gR 8 L j0 27 fun r3 =>
      fw_nn r3 fun j4 =>
      fw_wr 100 L j4 x2 (nI 0) fun L5 =>
      fw_is 8 L5 j0 <|
      fw_cl (f_X5_isHere j0 x2 L5) fun v7 L6 =>
      if v7 = 0 then (
        f_X5_goesBy_56 (f_X5_goesBy_21 n) j0 x1 x2 L6
      ) else (
        fw_gI 8 L6 j0 22 fun v8 =>
        if v8 = (-nI 1) then (
          fw_is 8 L6 j0 <|
          fw_cl (f_X5_pullsOne j0 x2 x1 L6) fun _ L9 =>
          f_X5_goesBy_56 (f_X5_goesBy_21 n) j0 x1 x2 L9
        ) else (
          f_X5_goesBy_56 (f_X5_goesBy_21 n) j0 x1 x2 L6
        )
      )
    )
def f_X5_goesBy (j0 : Nat) (x1 : Int32) (L : LH) : Rs Unit :=
  fw_is 8 L j0 <|
  fw_cl (f_X5_befalls j0 x1 L) fun _ L1 =>
  fw_gR 8 L1 j0 28 fun r2 =>
  fw_nn r2 fun j3 =>
  fw_wr 100 L1 j3 (nI 0) (nI 0) fun L4 =>
  fw_gR 8 L4 j0 28 fun r5 =>
  fw_nn r5 fun j6 =>
  fw_wr 100 L4 j6 (nI 1) (nI 0) fun L7 =>
  f_X5_goesBy_21 fw_fuel j0 x1 (nI 0) L7
set_option maxHeartbeats 4000000 in
set_option maxRecDepth 100000 in
theorem w_X5_goesBy_56 {K : Kx} {r9 : Unit} {L9 : LH} (hK : Ok K cX5_goesBy 3 RX5 3 64) (hF : Fin K none none L9) {rec21 : Nat → Int32 → Int32 → LH → Rs Unit} (hrec21 : ∀ {j0 : Nat} {x1 : Int32} {x2 : Int32} {L : LH} {mc ms : Nat}, rec21 j0 x1 x2 L = some (r9, L9, mc, ms) → AW K L mc ms 21 [(0, aR (some j0)), (1, aI x1), (2, aI x2)] []) {j0 : Nat} {x1 : Int32} {x2 : Int32} {L : LH} {mc ms : Nat} (h : f_X5_goesBy_56 rec21 j0 x1 x2 L = some (r9, L9, mc, ms)) : AW K L mc ms 56 [(0, aR (some j0)), (1, aI x1), (2, aI x2)] [] := by
  unfold f_X5_goesBy_56 at h
  refine aw_iinc (v := (x2 + (nI 1))) (lv' := [(2, aI (x2 + (nI 1))), (0, aR (some j0)), (1, aI x1)]) hK 2 dX5_goesBy_56 rfl rfl (by decide) rfl ?_
  refine aw_goto (tgt := 21) hK dX5_goesBy_59 (by decide) ?_
  exact aw_sub [1, 2, 0] rfl (hrec21 h)
set_option maxHeartbeats 4000000 in
set_option maxRecDepth 100000 in
theorem w_X5_goesBy_127 {K : Kx} {r9 : Unit} {L9 : LH} (hK : Ok K cX5_goesBy 3 RX5 3 64) (hF : Fin K none none L9) : ∀ {n : Nat} {j0 : Nat} {x1 : Int32} {x2 : Int32} {L : LH} {mc ms : Nat}, f_X5_goesBy_127 n j0 x1 x2 L = some (r9, L9, mc, ms) → AW K L mc ms 127 [(0, aR (some j0)), (1, aI x1), (2, aI x2)] [] := by
  intro n
  induction n with
  | zero =>
    intro j0 x1 x2 L mc ms h
    have h : (none : Rs Unit) = some (r9, L9, mc, ms) := h
    cases h
  | succ n ih =>
    intro j0 x1 x2 L mc ms h
    unfold f_X5_goesBy_127 at h
    refine aw_iload_n hK 2 dX5_goesBy_127 rfl rfl ?_
    refine aw_bipush (v := (nI 16)) hK dX5_goesBy_128 rfl ?_
    refine aw_icmp_ge (tgt := 173) hK dX5_goesBy_130 (by decide) h (fun h => ?_) (fun h => ?_)
    · exact aw_vret hK dX5_goesBy_173 h hF
    · refine aw_aload_n hK 0 dX5_goesBy_133 rfl rfl ?_
      refine aw_gR hK fw_c7 32 (by decide) rfl q1225 (fun _ h9 => h9) dX5_goesBy_134 h (fun r1 h => ?_)
      refine aw_bipush (v := (nI 16)) hK dX5_goesBy_137 rfl ?_
      refine aw_iload_n hK 1 dX5_goesBy_139 rfl rfl ?_
      refine aw_imul hK dX5_goesBy_140 ?_
      refine aw_iload_n hK 2 dX5_goesBy_141 rfl rfl ?_
      refine aw_iadd hK dX5_goesBy_142 ?_
      refine aw_aload_n hK 0 dX5_goesBy_143 rfl rfl ?_
      refine aw_gR hK fw_c7 27 (by decide) rfl q1220 (fun _ h9 => h9) dX5_goesBy_144 h (fun r2 h => ?_)
      refine aw_iload_n hK 2 dX5_goesBy_147 rfl rfl ?_
      obtain _ | j3 := r2
      · exact (fw_nn_no h).elim
      replace h := fw_nn_so h
      refine aw_iald hK dX5_goesBy_148 h (fun v4 h => ?_)
      obtain _ | j5 := r1
      · exact (fw_nn_no h).elim
      replace h := fw_nn_so h
      refine aw_iast hK dX5_goesBy_149 h (fun L6 h => ?_)
      refine aw_aload_n hK 0 dX5_goesBy_150 rfl rfl ?_
      refine aw_gR hK fw_c7 33 (by decide) rfl q1226 (fun _ h9 => h9) dX5_goesBy_151 h (fun r7 h => ?_)
      refine aw_bipush (v := (nI 16)) hK dX5_goesBy_154 rfl ?_
      refine aw_iload_n hK 1 dX5_goesBy_156 rfl rfl ?_
      refine aw_imul hK dX5_goesBy_157 ?_
      refine aw_iload_n hK 2 dX5_goesBy_158 rfl rfl ?_
      refine aw_iadd hK dX5_goesBy_159 ?_
      refine aw_aload_n hK 0 dX5_goesBy_160 rfl rfl ?_
      refine aw_gR hK fw_c7 25 (by decide) rfl q1218 (fun _ h9 => h9) dX5_goesBy_161 h (fun r8 h => ?_)
      refine aw_iload_n hK 2 dX5_goesBy_164 rfl rfl ?_
      obtain _ | j9 := r8
      · exact (fw_nn_no h).elim
      replace h := fw_nn_so h
      refine aw_iald hK dX5_goesBy_165 h (fun v10 h => ?_)
      obtain _ | j11 := r7
      · exact (fw_nn_no h).elim
      replace h := fw_nn_so h
      refine aw_iast hK dX5_goesBy_166 h (fun L12 h => ?_)
      refine aw_iinc (v := (x2 + (nI 1))) (lv' := [(2, aI (x2 + (nI 1))), (0, aR (some j0)), (1, aI x1)]) hK 2 dX5_goesBy_167 rfl rfl (by decide) rfl ?_
      refine aw_goto (tgt := 127) hK dX5_goesBy_170 (by decide) ?_
      exact aw_sub [1, 2, 0] rfl (ih h)
set_option maxHeartbeats 4000000 in
set_option maxRecDepth 100000 in
theorem w_X5_goesBy_75 {K : Kx} {r9 : Unit} {L9 : LH} (hK : Ok K cX5_goesBy 3 RX5 3 64) (hF : Fin K none none L9) {j0 : Nat} {x1 : Int32} {L : LH} {mc ms : Nat} (h : f_X5_goesBy_75 j0 x1 L = some (r9, L9, mc, ms)) : AW K L mc ms 75 [(0, aR (some j0)), (1, aI x1)] [] := by
  unfold f_X5_goesBy_75 at h
  refine aw_aload_n hK 0 dX5_goesBy_75 rfl rfl ?_
  refine aw_gR hK fw_c7 29 (by decide) rfl q1222 (fun _ h9 => h9) dX5_goesBy_76 h (fun r1 h => ?_)
  refine aw_iload_n hK 1 dX5_goesBy_79 rfl rfl ?_
  refine aw_aload_n hK 0 dX5_goesBy_80 rfl rfl ?_
  refine aw_gI hK fw_c7 21 (by decide) rfl q1214 (fun _ h9 => h9) dX5_goesBy_81 h (fun v2 h => ?_)
  obtain _ | j3 := r1
  · exact (fw_nn_no h).elim
  replace h := fw_nn_so h
  refine aw_iast hK dX5_goesBy_84 h (fun L4 h => ?_)
  refine aw_aload_n hK 0 dX5_goesBy_85 rfl rfl ?_
  refine aw_gR hK fw_c7 30 (by decide) rfl q1223 (fun _ h9 => h9) dX5_goesBy_86 h (fun r5 h => ?_)
  refine aw_iload_n hK 1 dX5_goesBy_89 rfl rfl ?_
  refine aw_aload_n hK 0 dX5_goesBy_90 rfl rfl ?_
  refine aw_gI hK fw_c7 18 (by decide) rfl q1211 (fun _ h9 => h9) dX5_goesBy_91 h (fun v6 h => ?_)
  obtain _ | j7 := r5
  · exact (fw_nn_no h).elim
  replace h := fw_nn_so h
  refine aw_iast hK dX5_goesBy_94 h (fun L8 h => ?_)
  refine aw_aload_n hK 0 dX5_goesBy_95 rfl rfl ?_
  refine aw_gR hK fw_c7 31 (by decide) rfl q1224 (fun _ h9 => h9) dX5_goesBy_96 h (fun r9 h => ?_)
  refine aw_iconst (v := (nI 2)) hK dX5_goesBy_99 rfl ?_
  refine aw_iload_n hK 1 dX5_goesBy_100 rfl rfl ?_
  refine aw_imul hK dX5_goesBy_101 ?_
  refine aw_aload_n hK 0 dX5_goesBy_102 rfl rfl ?_
  refine aw_gR hK fw_c7 28 (by decide) rfl q1221 (fun _ h9 => h9) dX5_goesBy_103 h (fun r10 h => ?_)
  refine aw_iconst (v := (nI 0)) hK dX5_goesBy_106 rfl ?_
  obtain _ | j11 := r10
  · exact (fw_nn_no h).elim
  replace h := fw_nn_so h
  refine aw_iald hK dX5_goesBy_107 h (fun v12 h => ?_)
  obtain _ | j13 := r9
  · exact (fw_nn_no h).elim
  replace h := fw_nn_so h
  refine aw_iast hK dX5_goesBy_108 h (fun L14 h => ?_)
  refine aw_aload_n hK 0 dX5_goesBy_109 rfl rfl ?_
  refine aw_gR hK fw_c7 31 (by decide) rfl q1224 (fun _ h9 => h9) dX5_goesBy_110 h (fun r15 h => ?_)
  refine aw_iconst (v := (nI 2)) hK dX5_goesBy_113 rfl ?_
  refine aw_iload_n hK 1 dX5_goesBy_114 rfl rfl ?_
  refine aw_imul hK dX5_goesBy_115 ?_
  refine aw_iconst (v := (nI 1)) hK dX5_goesBy_116 rfl ?_
  refine aw_iadd hK dX5_goesBy_117 ?_
  refine aw_aload_n hK 0 dX5_goesBy_118 rfl rfl ?_
  refine aw_gR hK fw_c7 28 (by decide) rfl q1221 (fun _ h9 => h9) dX5_goesBy_119 h (fun r16 h => ?_)
  refine aw_iconst (v := (nI 1)) hK dX5_goesBy_122 rfl ?_
  obtain _ | j17 := r16
  · exact (fw_nn_no h).elim
  replace h := fw_nn_so h
  refine aw_iald hK dX5_goesBy_123 h (fun v18 h => ?_)
  obtain _ | j19 := r15
  · exact (fw_nn_no h).elim
  replace h := fw_nn_so h
  refine aw_iast hK dX5_goesBy_124 h (fun L20 h => ?_)
  refine aw_iconst (v := (nI 0)) hK dX5_goesBy_125 rfl ?_
  refine aw_istore_n (lv' := [(2, aI (nI 0)), (0, aR (some j0)), (1, aI x1)]) hK dX5_goesBy_126 rfl (by decide) rfl ?_
  exact aw_sub [1, 2, 0] rfl (w_X5_goesBy_127 hK hF h)
set_option maxHeartbeats 4000000 in
set_option maxRecDepth 100000 in
theorem w_X5_goesBy_21 {K : Kx} {r9 : Unit} {L9 : LH} (hK : Ok K cX5_goesBy 3 RX5 3 64) (hF : Fin K none none L9) : ∀ {n : Nat} {j0 : Nat} {x1 : Int32} {x2 : Int32} {L : LH} {mc ms : Nat}, f_X5_goesBy_21 n j0 x1 x2 L = some (r9, L9, mc, ms) → AW K L mc ms 21 [(0, aR (some j0)), (1, aI x1), (2, aI x2)] [] := by
  intro n
  induction n with
  | zero =>
    intro j0 x1 x2 L mc ms h
    have h : (none : Rs Unit) = some (r9, L9, mc, ms) := h
    cases h
  | succ n ih =>
    intro j0 x1 x2 L mc ms h
    unfold f_X5_goesBy_21 at h
    refine aw_iload_n hK 2 dX5_goesBy_21 rfl rfl ?_
    refine aw_bipush (v := (nI 16)) hK dX5_goesBy_22 rfl ?_
    refine aw_icmp_ge (tgt := 62) hK dX5_goesBy_24 (by decide) h (fun h => ?_) (fun h => ?_)
    · refine aw_aload_n hK 0 dX5_goesBy_62 rfl rfl ?_
      refine aw_gI hK fw_c7 22 (by decide) rfl q1215 (fun _ h9 => h9) dX5_goesBy_63 h (fun v1 h => ?_)
      refine aw_iconst (v := (-nI 1)) hK dX5_goesBy_66 rfl ?_
      refine aw_icmp_ne (tgt := 75) hK dX5_goesBy_67 (by decide) h (fun h => ?_) (fun h => ?_)
      · exact aw_sub [0, 1] rfl (w_X5_goesBy_75 hK hF h)
      · refine aw_aload_n hK 0 dX5_goesBy_70 rfl rfl ?_
        refine aw_iload_n hK 1 dX5_goesBy_71 rfl rfl ?_
        obtain ⟨hj, h⟩ := fw_is_h h
        refine aw_callV_v (n := 1) hK fw_c7 hj (fun _ _ _ _ q => ct_X5_goes hK.zk q) (lw_V q1485 q1487 qs64 q102 q1488) (by decide +kernel) (by decide) rfl rfl (Nat.le_of_ble_eq_true rfl) dX5_goesBy_72 h (fun _ L2 _ _ h => ?_)
        exact aw_sub [0, 1] rfl (w_X5_goesBy_75 hK hF h)
    · refine aw_aload_n hK 0 dX5_goesBy_27 rfl rfl ?_
      refine aw_gR hK fw_c7 27 (by decide) rfl q1220 (fun _ h9 => h9) dX5_goesBy_28 h (fun r3 h => ?_)
      refine aw_iload_n hK 2 dX5_goesBy_31 rfl rfl ?_
      refine aw_iconst (v := (nI 0)) hK dX5_goesBy_32 rfl ?_
      obtain _ | j4 := r3
      · exact (fw_nn_no h).elim
      replace h := fw_nn_so h
      refine aw_iast hK dX5_goesBy_33 h (fun L5 h => ?_)
      refine aw_aload_n hK 0 dX5_goesBy_34 rfl rfl ?_
      refine aw_iload_n hK 2 dX5_goesBy_35 rfl rfl ?_
      obtain ⟨hj, h⟩ := fw_is_h h
      refine aw_callV_i (n := 1) hK fw_c7 hj (fun _ _ _ _ q => ct_X5_isHere hK.zk q) (lw_V q1462 q1464 qs59 q102 q1465) (by decide +kernel) (by decide) rfl rfl (Nat.le_of_ble_eq_true rfl) dX5_goesBy_36 h (fun v7 L6 _ _ h => ?_)
      refine aw_if_eq (tgt := 56) hK dX5_goesBy_39 (by decide) h (fun h => ?_) (fun h => ?_)
      · exact w_X5_goesBy_56 hK hF (fun h => ih h) h
      · refine aw_aload_n hK 0 dX5_goesBy_42 rfl rfl ?_
        refine aw_gI hK fw_c7 22 (by decide) rfl q1215 (fun _ h9 => h9) dX5_goesBy_43 h (fun v8 h => ?_)
        refine aw_iconst (v := (-nI 1)) hK dX5_goesBy_46 rfl ?_
        refine aw_icmp_ne (tgt := 56) hK dX5_goesBy_47 (by decide) h (fun h => ?_) (fun h => ?_)
        · exact w_X5_goesBy_56 hK hF (fun h => ih h) h
        · refine aw_aload_n hK 0 dX5_goesBy_50 rfl rfl ?_
          refine aw_iload_n hK 2 dX5_goesBy_51 rfl rfl ?_
          refine aw_iload_n hK 1 dX5_goesBy_52 rfl rfl ?_
          obtain ⟨hj, h⟩ := fw_is_h h
          refine aw_callV_v (n := 2) hK fw_c7 hj (fun _ _ _ _ q => ct_X5_pullsOne hK.zk q) (lw_V q1477 q1479 qs62 q102 q1480) (by decide +kernel) (by decide) rfl rfl (Nat.le_of_ble_eq_true rfl) dX5_goesBy_53 h (fun _ L9 _ _ h => ?_)
          exact w_X5_goesBy_56 hK hF (fun h => ih h) h
set_option maxHeartbeats 4000000 in
set_option maxRecDepth 100000 in
theorem w_X5_goesBy_0 {K : Kx} {r9 : Unit} {L9 : LH} (hK : Ok K cX5_goesBy 3 RX5 3 64) (hF : Fin K none none L9) {j0 : Nat} {x1 : Int32} {L : LH} {mc ms : Nat} (h : f_X5_goesBy j0 x1 L = some (r9, L9, mc, ms)) : AW K L mc ms 0 [(0, aR (some j0)), (1, aI x1)] [] := by
  unfold f_X5_goesBy at h
  refine aw_aload_n hK 0 dX5_goesBy_0 rfl rfl ?_
  refine aw_iload_n hK 1 dX5_goesBy_1 rfl rfl ?_
  obtain ⟨hj, h⟩ := fw_is_h h
  refine aw_callV_v (n := 1) hK fw_c7 hj (fun _ _ _ _ q => ct_X5_befalls hK.zk q) (lw_V q1470 q1472 qs61 q102 q1473) (by decide +kernel) (by decide) rfl rfl (Nat.le_of_ble_eq_true rfl) dX5_goesBy_2 h (fun _ L1 _ _ h => ?_)
  refine aw_aload_n hK 0 dX5_goesBy_5 rfl rfl ?_
  refine aw_gR hK fw_c7 28 (by decide) rfl q1221 (fun _ h9 => h9) dX5_goesBy_6 h (fun r2 h => ?_)
  refine aw_iconst (v := (nI 0)) hK dX5_goesBy_9 rfl ?_
  refine aw_iconst (v := (nI 0)) hK dX5_goesBy_10 rfl ?_
  obtain _ | j3 := r2
  · exact (fw_nn_no h).elim
  replace h := fw_nn_so h
  refine aw_iast hK dX5_goesBy_11 h (fun L4 h => ?_)
  refine aw_aload_n hK 0 dX5_goesBy_12 rfl rfl ?_
  refine aw_gR hK fw_c7 28 (by decide) rfl q1221 (fun _ h9 => h9) dX5_goesBy_13 h (fun r5 h => ?_)
  refine aw_iconst (v := (nI 1)) hK dX5_goesBy_16 rfl ?_
  refine aw_iconst (v := (nI 0)) hK dX5_goesBy_17 rfl ?_
  obtain _ | j6 := r5
  · exact (fw_nn_no h).elim
  replace h := fw_nn_so h
  refine aw_iast hK dX5_goesBy_18 h (fun L7 h => ?_)
  refine aw_iconst (v := (nI 0)) hK dX5_goesBy_19 rfl ?_
  refine aw_istore_n (lv' := [(2, aI (nI 0)), (0, aR (some j0)), (1, aI x1)]) hK dX5_goesBy_20 rfl (by decide) rfl ?_
  exact aw_sub [1, 2, 0] rfl (w_X5_goesBy_21 hK hF h)
theorem ct_X5_goesBy {Z : fw_ZT} (hZ : fw_Zok Z) {j0 : Nat} {x1 : Int32} {L : LH} {r9 : Unit} {L9 : LH} {mc ms : Nat} (h : f_X5_goesBy j0 x1 L = some (r9, L9, mc, ms)) : Ct Z yX5_goesBy (ws_ yX5_goesBy cX5_goesBy 3 none) 3 64 [aR (some j0), aI x1] L none L9 mc ms :=
  ct_of (own := RX5) hZ (by decide +kernel) rfl (Nat.le_of_ble_eq_true rfl) (fun K _ hK hF hini => w_X5_goesBy_0 hK hF h)
def f_X5_faultOf (j0 : Nat) (x1 : Int32) (L : LH) : Rs Int32 :=
  fw_is 8 L j0 <|
  fw_cl (f_X5_readsTeam j0 (nI 0) L) fun v2 L1 =>
  fw_is 8 L1 j0 <|
  fw_cl (f_X5_readsTeam j0 (nI 1) L1) fun v4 L3 =>
  fw_is 8 L3 j0 <|
  fw_cl (f_X5_readsCalls j0 (nI 0) L3) fun v6 L5 =>
  fw_is 8 L5 j0 <|
  fw_cl (f_X5_readsCalls j0 (nI 1) L5) fun v8 L7 =>
  if x1 = 0 then (
    some (v2, L7, 0, 0)
  ) else (
    if x1 = (nI 1) then (
      some (v4, L7, 0, 0)
    ) else (
      if x1 = (nI 2) then (
        some (v6, L7, 0, 0)
      ) else (
        some (v8, L7, 0, 0)
      )
    )
  )
set_option maxHeartbeats 4000000 in
set_option maxRecDepth 100000 in
theorem w_X5_faultOf_0 {K : Kx} {r9 : Int32} {L9 : LH} (hK : Ok K cX5_faultOf 6 RX5 3 73) (hF : Fin K (some (.int)) (some (aI r9)) L9) {j0 : Nat} {x1 : Int32} {L : LH} {mc ms : Nat} (h : f_X5_faultOf j0 x1 L = some (r9, L9, mc, ms)) : AW K L mc ms 0 [(0, aR (some j0)), (1, aI x1)] [] := by
  unfold f_X5_faultOf at h
  refine aw_aload_n hK 0 dX5_faultOf_0 rfl rfl ?_
  refine aw_iconst (v := (nI 0)) hK dX5_faultOf_1 rfl ?_
  obtain ⟨hj, h⟩ := fw_is_h h
  refine aw_callV_i (n := 1) hK fw_c7 hj (fun _ _ _ _ q => ct_X5_readsTeam hK.zk q) (lw_V q1362 q1364 qs45 q102 q1365) (by decide +kernel) (by decide) rfl rfl (Nat.le_of_ble_eq_true rfl) dX5_faultOf_2 h (fun v2 L1 _ _ h => ?_)
  refine aw_istore_n (lv' := [(2, aI v2), (0, aR (some j0)), (1, aI x1)]) hK dX5_faultOf_5 rfl (by decide) rfl ?_
  refine aw_aload_n hK 1 dX5_faultOf_6 rfl rfl ?_
  refine aw_iconst (v := (nI 1)) hK dX5_faultOf_7 rfl ?_
  obtain ⟨hj, h⟩ := fw_is_h h
  refine aw_callV_i (n := 1) hK fw_c7 hj (fun _ _ _ _ q => ct_X5_readsTeam hK.zk q) (lw_V q1362 q1364 qs45 q102 q1365) (by decide +kernel) (by decide) rfl rfl (Nat.le_of_ble_eq_true rfl) dX5_faultOf_8 h (fun v4 L3 _ _ h => ?_)
  refine aw_istore_n (lv' := [(3, aI v4), (2, aI v2), (0, aR (some j0)), (1, aI x1)]) hK dX5_faultOf_11 rfl (by decide) rfl ?_
  refine aw_aload_n hK 2 dX5_faultOf_12 rfl rfl ?_
  refine aw_iconst (v := (nI 0)) hK dX5_faultOf_13 rfl ?_
  obtain ⟨hj, h⟩ := fw_is_h h
  refine aw_callV_i (n := 1) hK fw_c7 hj (fun _ _ _ _ q => ct_X5_readsCalls hK.zk q) (lw_V q1374 q1376 qs48 q102 q1377) (by decide +kernel) (by decide) rfl rfl (Nat.le_of_ble_eq_true rfl) dX5_faultOf_14 h (fun v6 L5 _ _ h => ?_)
  refine aw_istore (lv' := [(4, aI v6), (3, aI v4), (2, aI v2), (0, aR (some j0)), (1, aI x1)]) hK dX5_faultOf_17 (by decide) rfl ?_
  refine aw_aload_n hK 3 dX5_faultOf_19 rfl rfl ?_
  refine aw_iconst (v := (nI 1)) hK dX5_faultOf_20 rfl ?_
  obtain ⟨hj, h⟩ := fw_is_h h
  refine aw_callV_i (n := 1) hK fw_c7 hj (fun _ _ _ _ q => ct_X5_readsCalls hK.zk q) (lw_V q1374 q1376 qs48 q102 q1377) (by decide +kernel) (by decide) rfl rfl (Nat.le_of_ble_eq_true rfl) dX5_faultOf_21 h (fun v8 L7 _ _ h => ?_)
  refine aw_istore (lv' := [(5, aI v8), (4, aI v6), (3, aI v4), (2, aI v2), (0, aR (some j0)), (1, aI x1)]) hK dX5_faultOf_24 (by decide) rfl ?_
  refine aw_iload_n hK 5 dX5_faultOf_26 rfl rfl ?_
  refine aw_if_ne (tgt := 34) hK dX5_faultOf_27 (by decide) h (fun h => ?_) (fun h => ?_)
  · refine aw_iload_n hK 5 dX5_faultOf_34 rfl rfl ?_
    refine aw_iconst (v := (nI 1)) hK dX5_faultOf_35 rfl ?_
    refine aw_icmp_ne (tgt := 43) hK dX5_faultOf_36 (by decide) h (fun h => ?_) (fun h => ?_)
    · refine aw_iload_n hK 5 dX5_faultOf_43 rfl rfl ?_
      refine aw_iconst (v := (nI 2)) hK dX5_faultOf_44 rfl ?_
      refine aw_icmp_ne (tgt := 53) hK dX5_faultOf_45 (by decide) h (fun h => ?_) (fun h => ?_)
      · refine aw_iload hK 0 dX5_faultOf_53 rfl ?_
        exact aw_iret hK dX5_faultOf_55 h hF
      · refine aw_iload hK 1 dX5_faultOf_48 rfl ?_
        refine aw_goto (tgt := 55) hK dX5_faultOf_50 (by decide) ?_
        exact aw_iret hK dX5_faultOf_55 h hF
    · refine aw_iload_n hK 2 dX5_faultOf_39 rfl rfl ?_
      refine aw_goto (tgt := 55) hK dX5_faultOf_40 (by decide) ?_
      exact aw_iret hK dX5_faultOf_55 h hF
  · refine aw_iload_n hK 3 dX5_faultOf_30 rfl rfl ?_
    refine aw_goto (tgt := 55) hK dX5_faultOf_31 (by decide) ?_
    exact aw_iret hK dX5_faultOf_55 h hF
theorem ct_X5_faultOf {Z : fw_ZT} (hZ : fw_Zok Z) {j0 : Nat} {x1 : Int32} {L : LH} {r9 : Int32} {L9 : LH} {mc ms : Nat} (h : f_X5_faultOf j0 x1 L = some (r9, L9, mc, ms)) : Ct Z yX5_faultOf (ws_ yX5_faultOf cX5_faultOf 6 (some (.int))) 3 73 [aR (some j0), aI x1] L (some (aI r9)) L9 mc ms :=
  ct_of (own := RX5) hZ (by decide +kernel) rfl (Nat.le_of_ble_eq_true rfl) (fun K _ hK hF hini => w_X5_faultOf_0 hK hF h)
def f_X5_reads (j0 : Nat) (L : LH) : Rs Unit :=
  fw_is 8 L j0 <|
  fw_cl (f_X5_faultOf j0 (nI 0) L) fun v2 L1 =>
  some ((), L1, 0, 0)
set_option maxHeartbeats 4000000 in
set_option maxRecDepth 100000 in
theorem w_X5_reads_0 {K : Kx} {r9 : Unit} {L9 : LH} (hK : Ok K cX5_reads 2 RX5 4 98) (hF : Fin K none none L9) {j0 : Nat} {L : LH} {mc ms : Nat} (h : f_X5_reads j0 L = some (r9, L9, mc, ms)) : AW K L mc ms 0 [(0, aR (some j0))] [] := by
  unfold f_X5_reads at h
  refine aw_aload_n hK 0 dX5_reads_0 rfl rfl ?_
  refine aw_iconst (v := (nI 0)) hK dX5_reads_1 rfl ?_
  obtain ⟨hj, h⟩ := fw_is_h h
  refine aw_callV_i (n := 1) hK fw_c7 hj (fun _ _ _ _ q => ct_X5_faultOf hK.zk q) (lw_V q1358 q1360 qs44 q102 q1361) (by decide +kernel) (by decide) rfl rfl (Nat.le_of_ble_eq_true rfl) dX5_reads_2 h (fun v2 L1 _ _ h => ?_)
  refine aw_istore_n (lv' := [(1, aI v2), (0, aR (some j0))]) hK dX5_reads_5 rfl (by decide) rfl ?_
  exact aw_vret hK dX5_reads_6 h hF
theorem ct_X5_reads {Z : fw_ZT} (hZ : fw_Zok Z) {j0 : Nat} {L : LH} {r9 : Unit} {L9 : LH} {mc ms : Nat} (h : f_X5_reads j0 L = some (r9, L9, mc, ms)) : Ct Z yX5_reads (ws_ yX5_reads cX5_reads 2 none) 4 98 [aR (some j0)] L none L9 mc ms :=
  ct_of (own := RX5) hZ (by decide +kernel) rfl (Nat.le_of_ble_eq_true rfl) (fun K _ hK hF hini => w_X5_reads_0 hK hF h)
def f_X5_callOf (j0 : Nat) (x1 : Int32) (x2 : Int32) (L : LH) : Rs Int32 :=
  fw_is 8 L j0 <|
  fw_cl (f_X5_reads j0 L) fun _ L1 =>
  fw_gR 8 L1 j0 7 fun r2 =>
  fw_nn r2 fun j3 =>
  fw_rd 100 L1 j3 (((nI 24) * x1) + x2) fun v4 =>
  some (v4, L1, 0, 0)
set_option maxHeartbeats 4000000 in
set_option maxRecDepth 100000 in
theorem w_X5_callOf_0 {K : Kx} {r9 : Int32} {L9 : LH} (hK : Ok K cX5_callOf 3 RX5 5 119) (hF : Fin K (some (.int)) (some (aI r9)) L9) {j0 : Nat} {x1 : Int32} {x2 : Int32} {L : LH} {mc ms : Nat} (h : f_X5_callOf j0 x1 x2 L = some (r9, L9, mc, ms)) : AW K L mc ms 0 [(0, aR (some j0)), (1, aI x1), (2, aI x2)] [] := by
  unfold f_X5_callOf at h
  refine aw_aload_n hK 0 dX5_callOf_0 rfl rfl ?_
  obtain ⟨hj, h⟩ := fw_is_h h
  refine aw_callV_v (n := 0) hK fw_c7 hj (fun _ _ _ _ q => ct_X5_reads hK.zk q) (lw_V q1389 q1391 qs50 q102 q1392) (by decide +kernel) (by decide) rfl rfl (Nat.le_of_ble_eq_true rfl) dX5_callOf_1 h (fun _ L1 _ _ h => ?_)
  refine aw_aload_n hK 0 dX5_callOf_4 rfl rfl ?_
  refine aw_gR hK fw_c7 7 (by decide) rfl q1200 (fun _ h9 => h9) dX5_callOf_5 h (fun r2 h => ?_)
  refine aw_bipush (v := (nI 24)) hK dX5_callOf_8 rfl ?_
  refine aw_iload_n hK 1 dX5_callOf_10 rfl rfl ?_
  refine aw_imul hK dX5_callOf_11 ?_
  refine aw_iload_n hK 2 dX5_callOf_12 rfl rfl ?_
  refine aw_iadd hK dX5_callOf_13 ?_
  obtain _ | j3 := r2
  · exact (fw_nn_no h).elim
  replace h := fw_nn_so h
  refine aw_iald hK dX5_callOf_14 h (fun v4 h => ?_)
  exact aw_iret hK dX5_callOf_15 h hF
theorem ct_X5_callOf {Z : fw_ZT} (hZ : fw_Zok Z) {j0 : Nat} {x1 : Int32} {x2 : Int32} {L : LH} {r9 : Int32} {L9 : LH} {mc ms : Nat} (h : f_X5_callOf j0 x1 x2 L = some (r9, L9, mc, ms)) : Ct Z yX5_callOf (ws_ yX5_callOf cX5_callOf 3 (some (.int))) 5 119 [aR (some j0), aI x1, aI x2] L (some (aI r9)) L9 mc ms :=
  ct_of (own := RX5) hZ (by decide +kernel) rfl (Nat.le_of_ble_eq_true rfl) (fun K _ hK hF hini => w_X5_callOf_0 hK hF h)
def f_X5_asTold_37 : Nat → Nat → Int32 → LH → Rs Unit
  | 0, _, _, _ => none
  | n + 1, j0, x1, L =>
    if (nI 16) ≤ x1 then (
      fw_pI 8 L j0 16 (-nI 1) fun L1 =>
      some ((), L1, 0, 0)
    ) else (
      fw_gR 8 L j0 15 fun r2 =>
      fw_nn r2 fun j3 =>
      fw_wr 100 L j3 x1 (x1 - x1 / (nI 8) * (nI 8)) fun L4 =>
      f_X5_asTold_37 n j0 (x1 + (nI 1)) L4
    )
def f_X5_asTold_6 : Nat → Nat → Int32 → LH → Rs Unit
  | 0, _, _, _ => none
  | n + 1, j0, x1, L =>
    if (nI 48) ≤ x1 then (
      fw_pI 8 L j0 14 (nI 0) fun L1 =>
      f_X5_asTold_37 fw_fuel j0 (nI 0) L1
    ) else (
      fw_gR 8 L j0 13 fun r2 =>
      fw_gR 8 L j0 7 fun r3 =>
      fw_nn r3 fun j4 =>
      fw_rd 100 L j4 x1 fun v5 =>
      fw_nn r2 fun j6 =>
      fw_wr 100 L j6 x1 v5 fun L7 =>
      f_X5_asTold_6 n j0 (x1 + (nI 1)) L7
    )
def f_X5_asTold (j0 : Nat) (L : LH) : Rs Unit :=
  fw_is 8 L j0 <|
  fw_cl (f_X5_reads j0 L) fun _ L1 =>
  f_X5_asTold_6 fw_fuel j0 (nI 0) L1
set_option maxHeartbeats 4000000 in
set_option maxRecDepth 100000 in
theorem w_X5_asTold_37 {K : Kx} {r9 : Unit} {L9 : LH} (hK : Ok K cX5_asTold 2 RX5 5 119) (hF : Fin K none none L9) : ∀ {n : Nat} {j0 : Nat} {x1 : Int32} {L : LH} {mc ms : Nat}, f_X5_asTold_37 n j0 x1 L = some (r9, L9, mc, ms) → AW K L mc ms 37 [(0, aR (some j0)), (1, aI x1)] [] := by
  intro n
  induction n with
  | zero =>
    intro j0 x1 L mc ms h
    have h : (none : Rs Unit) = some (r9, L9, mc, ms) := h
    cases h
  | succ n ih =>
    intro j0 x1 L mc ms h
    unfold f_X5_asTold_37 at h
    refine aw_iload_n hK 1 dX5_asTold_37 rfl rfl ?_
    refine aw_bipush (v := (nI 16)) hK dX5_asTold_38 rfl ?_
    refine aw_icmp_ge (tgt := 59) hK dX5_asTold_40 (by decide) h (fun h => ?_) (fun h => ?_)
    · refine aw_aload_n hK 0 dX5_asTold_59 rfl rfl ?_
      refine aw_iconst (v := (-nI 1)) hK dX5_asTold_60 rfl ?_
      refine aw_pI hK fw_c7 16 (by decide) rfl q1209 (fun _ h9 => h9) rfl rfl rfl dX5_asTold_61 h (fun L1 h => ?_)
      exact aw_vret hK dX5_asTold_64 h hF
    · refine aw_aload_n hK 0 dX5_asTold_43 rfl rfl ?_
      refine aw_gR hK fw_c7 15 (by decide) rfl q1208 (fun _ h9 => h9) dX5_asTold_44 h (fun r2 h => ?_)
      refine aw_iload_n hK 1 dX5_asTold_47 rfl rfl ?_
      refine aw_iload_n hK 1 dX5_asTold_48 rfl rfl ?_
      refine aw_bipush (v := (nI 8)) hK dX5_asTold_49 rfl ?_
      refine aw_irem hK dX5_asTold_51 (by decide) ?_
      obtain _ | j3 := r2
      · exact (fw_nn_no h).elim
      replace h := fw_nn_so h
      refine aw_iast hK dX5_asTold_52 h (fun L4 h => ?_)
      refine aw_iinc (v := (x1 + (nI 1))) (lv' := [(1, aI (x1 + (nI 1))), (0, aR (some j0))]) hK 1 dX5_asTold_53 rfl rfl (by decide) rfl ?_
      refine aw_goto (tgt := 37) hK dX5_asTold_56 (by decide) ?_
      exact aw_sub [1, 0] rfl (ih h)
set_option maxHeartbeats 4000000 in
set_option maxRecDepth 100000 in
theorem w_X5_asTold_6 {K : Kx} {r9 : Unit} {L9 : LH} (hK : Ok K cX5_asTold 2 RX5 5 119) (hF : Fin K none none L9) : ∀ {n : Nat} {j0 : Nat} {x1 : Int32} {L : LH} {mc ms : Nat}, f_X5_asTold_6 n j0 x1 L = some (r9, L9, mc, ms) → AW K L mc ms 6 [(0, aR (some j0)), (1, aI x1)] [] := by
  intro n
  induction n with
  | zero =>
    intro j0 x1 L mc ms h
    have h : (none : Rs Unit) = some (r9, L9, mc, ms) := h
    cases h
  | succ n ih =>
    intro j0 x1 L mc ms h
    unfold f_X5_asTold_6 at h
    refine aw_iload_n hK 1 dX5_asTold_6 rfl rfl ?_
    refine aw_bipush (v := (nI 48)) hK dX5_asTold_7 rfl ?_
    refine aw_icmp_ge (tgt := 30) hK dX5_asTold_9 (by decide) h (fun h => ?_) (fun h => ?_)
    · refine aw_aload_n hK 0 dX5_asTold_30 rfl rfl ?_
      refine aw_iconst (v := (nI 0)) hK dX5_asTold_31 rfl ?_
      refine aw_pI hK fw_c7 14 (by decide) rfl q1207 (fun _ h9 => h9) rfl rfl rfl dX5_asTold_32 h (fun L1 h => ?_)
      refine aw_iconst (v := (nI 0)) hK dX5_asTold_35 rfl ?_
      refine aw_istore_n (lv' := [(1, aI (nI 0)), (0, aR (some j0))]) hK dX5_asTold_36 rfl (by decide) rfl ?_
      exact aw_sub [1, 0] rfl (w_X5_asTold_37 hK hF h)
    · refine aw_aload_n hK 0 dX5_asTold_12 rfl rfl ?_
      refine aw_gR hK fw_c7 13 (by decide) rfl q1206 (fun _ h9 => h9) dX5_asTold_13 h (fun r2 h => ?_)
      refine aw_iload_n hK 1 dX5_asTold_16 rfl rfl ?_
      refine aw_aload_n hK 0 dX5_asTold_17 rfl rfl ?_
      refine aw_gR hK fw_c7 7 (by decide) rfl q1200 (fun _ h9 => h9) dX5_asTold_18 h (fun r3 h => ?_)
      refine aw_iload_n hK 1 dX5_asTold_21 rfl rfl ?_
      obtain _ | j4 := r3
      · exact (fw_nn_no h).elim
      replace h := fw_nn_so h
      refine aw_iald hK dX5_asTold_22 h (fun v5 h => ?_)
      obtain _ | j6 := r2
      · exact (fw_nn_no h).elim
      replace h := fw_nn_so h
      refine aw_iast hK dX5_asTold_23 h (fun L7 h => ?_)
      refine aw_iinc (v := (x1 + (nI 1))) (lv' := [(1, aI (x1 + (nI 1))), (0, aR (some j0))]) hK 1 dX5_asTold_24 rfl rfl (by decide) rfl ?_
      refine aw_goto (tgt := 6) hK dX5_asTold_27 (by decide) ?_
      exact aw_sub [1, 0] rfl (ih h)
set_option maxHeartbeats 4000000 in
set_option maxRecDepth 100000 in
theorem w_X5_asTold_0 {K : Kx} {r9 : Unit} {L9 : LH} (hK : Ok K cX5_asTold 2 RX5 5 119) (hF : Fin K none none L9) {j0 : Nat} {L : LH} {mc ms : Nat} (h : f_X5_asTold j0 L = some (r9, L9, mc, ms)) : AW K L mc ms 0 [(0, aR (some j0))] [] := by
  unfold f_X5_asTold at h
  refine aw_aload_n hK 0 dX5_asTold_0 rfl rfl ?_
  obtain ⟨hj, h⟩ := fw_is_h h
  refine aw_callV_v (n := 0) hK fw_c7 hj (fun _ _ _ _ q => ct_X5_reads hK.zk q) (lw_V q1389 q1391 qs50 q102 q1392) (by decide +kernel) (by decide) rfl rfl (Nat.le_of_ble_eq_true rfl) dX5_asTold_1 h (fun _ L1 _ _ h => ?_)
  refine aw_iconst (v := (nI 0)) hK dX5_asTold_4 rfl ?_
  refine aw_istore_n (lv' := [(1, aI (nI 0)), (0, aR (some j0))]) hK dX5_asTold_5 rfl (by decide) rfl ?_
  exact aw_sub [1, 0] rfl (w_X5_asTold_6 hK hF h)
theorem ct_X5_asTold {Z : fw_ZT} (hZ : fw_Zok Z) {j0 : Nat} {L : LH} {r9 : Unit} {L9 : LH} {mc ms : Nat} (h : f_X5_asTold j0 L = some (r9, L9, mc, ms)) : Ct Z yX5_asTold (ws_ yX5_asTold cX5_asTold 2 none) 5 119 [aR (some j0)] L none L9 mc ms :=
  ct_of (own := RX5) hZ (by decide +kernel) rfl (Nat.le_of_ble_eq_true rfl) (fun K _ hK hF hini => w_X5_asTold_0 hK hF h)
def f_X5_runs_150 (rec45 : Nat → Int32 → LH → Rs Unit) (j0 : Nat) (x1 : Int32) (sx0 : Int32) (sx1 : Int32) (sr2 : Option Nat) (L : LH) : Rs Unit :=
  fw_nn sr2 fun j1 =>
  fw_wr 100 L j1 sx1 sx0 fun L2 =>
  rec45 j0 (x1 + (nI 1)) L2
def f_X5_runs_130 (rec45 : Nat → Int32 → LH → Rs Unit) (j0 : Nat) (x1 : Int32) (x2 : Int32) (sx0 : Int32) (L : LH) : Rs Unit :=
  fw_gR 8 L j0 17 fun r1 =>
  if sx0 = 0 then (
    fw_gR 8 L j0 17 fun r2 =>
    fw_nn r2 fun j3 =>
    fw_rd 100 L j3 x2 fun v4 =>
    f_X5_runs_150 rec45 j0 x1 v4 x2 r1 L
  ) else (
    f_X5_runs_150 rec45 j0 x1 x1 x2 r1 L
  )
def f_X5_runs_125 (rec45 : Nat → Int32 → LH → Rs Unit) (j0 : Nat) (x1 : Int32) (x2 : Int32) (L : LH) : Rs Unit :=
  f_X5_runs_130 rec45 j0 x1 x2 (nI 1) L
def f_X5_runs_129 (rec45 : Nat → Int32 → LH → Rs Unit) (j0 : Nat) (x1 : Int32) (x2 : Int32) (L : LH) : Rs Unit :=
  f_X5_runs_130 rec45 j0 x1 x2 (nI 0) L
def f_X5_runs_79 (rec45 : Nat → Int32 → LH → Rs Unit) (j0 : Nat) (x1 : Int32) (x2 : Int32) (sx0 : Int32) (sx1 : Int32) (sr2 : Option Nat) (L : LH) : Rs Unit :=
  fw_nn sr2 fun j1 =>
  fw_wr 100 L j1 sx1 sx0 fun L2 =>
  fw_gR 8 L2 j0 26 fun r3 =>
  fw_nn r3 fun j4 =>
  fw_wr 100 L2 j4 x1 (nI 0) fun L5 =>
  fw_is 8 L5 j0 <|
  fw_cl (f_X5_isHere j0 x1 L5) fun v7 L6 =>
  if v7 = 0 then (
    f_X5_runs_129 rec45 j0 x1 x2 L6
  ) else (
    fw_gR 8 L6 j0 17 fun r8 =>
    fw_nn r8 fun j9 =>
    fw_rd 100 L6 j9 x2 fun v10 =>
    if v10 = (-nI 1) then (
      f_X5_runs_125 rec45 j0 x1 x2 L6
    ) else (
      fw_gR 8 L6 j0 15 fun r11 =>
      fw_nn r11 fun j12 =>
      fw_rd 100 L6 j12 x1 fun v13 =>
      fw_gR 8 L6 j0 15 fun r14 =>
      fw_gR 8 L6 j0 17 fun r15 =>
      fw_nn r15 fun j16 =>
      fw_rd 100 L6 j16 x2 fun v17 =>
      fw_nn r14 fun j18 =>
      fw_rd 100 L6 j18 v17 fun v19 =>
      if v13 ≤ v19 then (
        f_X5_runs_129 rec45 j0 x1 x2 L6
      ) else (
        f_X5_runs_125 rec45 j0 x1 x2 L6
      )
    )
  )
def f_X5_runs_159 : Nat → Nat → Int32 → LH → Rs Unit
  | 0, _, _, _ => none
  | n + 1, j0, x1, L =>
    if (nI 24) ≤ x1 then (
      some ((), L, 0, 0)
    ) else (
      fw_is 8 L j0 <|
      fw_cl (f_X5_goesBy j0 x1 L) fun _ L1 =>
      f_X5_runs_159 n j0 (x1 + (nI 1)) L1
    )
def f_X5_runs_45 : Nat → Nat → Int32 → LH → Rs Unit
  | 0, _, _, _ => none
  | n + 1, j0, x1, L =>
    if (nI 16) ≤ x1 then (
      f_X5_runs_159 fw_fuel j0 (nI 0) L
    ) else (
      fw_gR 8 L j0 25 fun r1 =>
      fw_is 8 L j0 <|
      fw_cl (f_X5_isThereOne j0 x1 L) fun v3 L2 =>
      if v3 = 0 then (
        f_X5_runs_79 (f_X5_runs_45 n) j0 x1 (x1 / (nI 8)) (nI 0) x1 r1 L2
      ) else (
        fw_gR 8 L2 j0 5 fun r4 =>
        fw_nn r4 fun j5 =>
        fw_rd 100 L2 j5 x1 fun v6 =>
        f_X5_runs_79 (f_X5_runs_45 n) j0 x1 (x1 / (nI 8)) v6 x1 r1 L2
      )
    )
def f_X5_runs (j0 : Nat) (L : LH) : Rs Unit :=
  fw_gI 8 L j0 8 fun v1 =>
  fw_pI 8 L j0 18 v1 fun L2 =>
  fw_pI 8 L2 j0 21 (nI 12) fun L3 =>
  fw_pI 8 L3 j0 22 (-nI 1) fun L4 =>
  fw_pI 8 L4 j0 23 (-nI 1) fun L5 =>
  fw_pI 8 L5 j0 24 (nI 0) fun L6 =>
  fw_gR 8 L6 j0 17 fun r7 =>
  fw_nn r7 fun j8 =>
  fw_wr 100 L6 j8 (nI 0) (-nI 1) fun L9 =>
  fw_gR 8 L9 j0 17 fun r10 =>
  fw_nn r10 fun j11 =>
  fw_wr 100 L9 j11 (nI 1) (-nI 1) fun L12 =>
  f_X5_runs_45 fw_fuel j0 (nI 0) L12
set_option maxHeartbeats 4000000 in
set_option maxRecDepth 100000 in
theorem w_X5_runs_150 {K : Kx} {r9 : Unit} {L9 : LH} (hK : Ok K cX5_runs 4 RX5 4 86) (hF : Fin K none none L9) {rec45 : Nat → Int32 → LH → Rs Unit} (hrec45 : ∀ {j0 : Nat} {x1 : Int32} {L : LH} {mc ms : Nat}, rec45 j0 x1 L = some (r9, L9, mc, ms) → AW K L mc ms 45 [(0, aR (some j0)), (1, aI x1)] []) {j0 : Nat} {x1 : Int32} {sx0 : Int32} {sx1 : Int32} {sr2 : Option Nat} {L : LH} {mc ms : Nat} (h : f_X5_runs_150 rec45 j0 x1 sx0 sx1 sr2 L = some (r9, L9, mc, ms)) : AW K L mc ms 150 [(0, aR (some j0)), (1, aI x1)] [aI sx0, aI sx1, aR sr2] := by
  unfold f_X5_runs_150 at h
  obtain _ | j1 := sr2
  · exact (fw_nn_no h).elim
  replace h := fw_nn_so h
  refine aw_iast hK dX5_runs_150 h (fun L2 h => ?_)
  refine aw_iinc (v := (x1 + (nI 1))) (lv' := [(1, aI (x1 + (nI 1))), (0, aR (some j0))]) hK 1 dX5_runs_151 rfl rfl (by decide) rfl ?_
  refine aw_goto (tgt := 45) hK dX5_runs_154 (by decide) ?_
  exact aw_sub [1, 0] rfl (hrec45 h)
set_option maxHeartbeats 4000000 in
set_option maxRecDepth 100000 in
theorem w_X5_runs_130 {K : Kx} {r9 : Unit} {L9 : LH} (hK : Ok K cX5_runs 4 RX5 4 86) (hF : Fin K none none L9) {rec45 : Nat → Int32 → LH → Rs Unit} (hrec45 : ∀ {j0 : Nat} {x1 : Int32} {L : LH} {mc ms : Nat}, rec45 j0 x1 L = some (r9, L9, mc, ms) → AW K L mc ms 45 [(0, aR (some j0)), (1, aI x1)] []) {j0 : Nat} {x1 : Int32} {x2 : Int32} {sx0 : Int32} {L : LH} {mc ms : Nat} (h : f_X5_runs_130 rec45 j0 x1 x2 sx0 L = some (r9, L9, mc, ms)) : AW K L mc ms 130 [(0, aR (some j0)), (1, aI x1), (2, aI x2)] [aI sx0] := by
  unfold f_X5_runs_130 at h
  refine aw_istore_n (lv' := [(3, aI sx0), (0, aR (some j0)), (1, aI x1), (2, aI x2)]) hK dX5_runs_130 rfl (by decide) rfl ?_
  refine aw_aload_n hK 1 dX5_runs_131 rfl rfl ?_
  refine aw_gR hK fw_c7 17 (by decide) rfl q1210 (fun _ h9 => h9) dX5_runs_132 h (fun r1 h => ?_)
  refine aw_iload_n hK 3 dX5_runs_135 rfl rfl ?_
  refine aw_iload_n hK 0 dX5_runs_136 rfl rfl ?_
  refine aw_if_eq (tgt := 144) hK dX5_runs_137 (by decide) h (fun h => ?_) (fun h => ?_)
  · refine aw_aload_n hK 1 dX5_runs_144 rfl rfl ?_
    refine aw_gR hK fw_c7 17 (by decide) rfl q1210 (fun _ h9 => h9) dX5_runs_145 h (fun r2 h => ?_)
    refine aw_iload_n hK 3 dX5_runs_148 rfl rfl ?_
    obtain _ | j3 := r2
    · exact (fw_nn_no h).elim
    replace h := fw_nn_so h
    refine aw_iald hK dX5_runs_149 h (fun v4 h => ?_)
    exact aw_sub [1, 2] rfl (w_X5_runs_150 hK hF (fun h => hrec45 h) h)
  · refine aw_iload_n hK 2 dX5_runs_140 rfl rfl ?_
    refine aw_goto (tgt := 150) hK dX5_runs_141 (by decide) ?_
    exact aw_sub [1, 2] rfl (w_X5_runs_150 hK hF (fun h => hrec45 h) h)
set_option maxHeartbeats 4000000 in
set_option maxRecDepth 100000 in
theorem w_X5_runs_125 {K : Kx} {r9 : Unit} {L9 : LH} (hK : Ok K cX5_runs 4 RX5 4 86) (hF : Fin K none none L9) {rec45 : Nat → Int32 → LH → Rs Unit} (hrec45 : ∀ {j0 : Nat} {x1 : Int32} {L : LH} {mc ms : Nat}, rec45 j0 x1 L = some (r9, L9, mc, ms) → AW K L mc ms 45 [(0, aR (some j0)), (1, aI x1)] []) {j0 : Nat} {x1 : Int32} {x2 : Int32} {L : LH} {mc ms : Nat} (h : f_X5_runs_125 rec45 j0 x1 x2 L = some (r9, L9, mc, ms)) : AW K L mc ms 125 [(0, aR (some j0)), (1, aI x1), (2, aI x2)] [] := by
  unfold f_X5_runs_125 at h
  refine aw_iconst (v := (nI 1)) hK dX5_runs_125 rfl ?_
  refine aw_goto (tgt := 130) hK dX5_runs_126 (by decide) ?_
  exact w_X5_runs_130 hK hF (fun h => hrec45 h) h
set_option maxHeartbeats 4000000 in
set_option maxRecDepth 100000 in
theorem w_X5_runs_129 {K : Kx} {r9 : Unit} {L9 : LH} (hK : Ok K cX5_runs 4 RX5 4 86) (hF : Fin K none none L9) {rec45 : Nat → Int32 → LH → Rs Unit} (hrec45 : ∀ {j0 : Nat} {x1 : Int32} {L : LH} {mc ms : Nat}, rec45 j0 x1 L = some (r9, L9, mc, ms) → AW K L mc ms 45 [(0, aR (some j0)), (1, aI x1)] []) {j0 : Nat} {x1 : Int32} {x2 : Int32} {L : LH} {mc ms : Nat} (h : f_X5_runs_129 rec45 j0 x1 x2 L = some (r9, L9, mc, ms)) : AW K L mc ms 129 [(0, aR (some j0)), (1, aI x1), (2, aI x2)] [] := by
  unfold f_X5_runs_129 at h
  refine aw_iconst (v := (nI 0)) hK dX5_runs_129 rfl ?_
  exact w_X5_runs_130 hK hF (fun h => hrec45 h) h
set_option maxHeartbeats 4000000 in
set_option maxRecDepth 100000 in
theorem w_X5_runs_79 {K : Kx} {r9 : Unit} {L9 : LH} (hK : Ok K cX5_runs 4 RX5 4 86) (hF : Fin K none none L9) {rec45 : Nat → Int32 → LH → Rs Unit} (hrec45 : ∀ {j0 : Nat} {x1 : Int32} {L : LH} {mc ms : Nat}, rec45 j0 x1 L = some (r9, L9, mc, ms) → AW K L mc ms 45 [(0, aR (some j0)), (1, aI x1)] []) {j0 : Nat} {x1 : Int32} {x2 : Int32} {sx0 : Int32} {sx1 : Int32} {sr2 : Option Nat} {L : LH} {mc ms : Nat} (h : f_X5_runs_79 rec45 j0 x1 x2 sx0 sx1 sr2 L = some (r9, L9, mc, ms)) : AW K L mc ms 79 [(0, aR (some j0)), (1, aI x1), (2, aI x2)] [aI sx0, aI sx1, aR sr2] := by
  unfold f_X5_runs_79 at h
  obtain _ | j1 := sr2
  · exact (fw_nn_no h).elim
  replace h := fw_nn_so h
  refine aw_iast hK dX5_runs_79 h (fun L2 h => ?_)
  refine aw_aload_n hK 0 dX5_runs_80 rfl rfl ?_
  refine aw_gR hK fw_c7 26 (by decide) rfl q1219 (fun _ h9 => h9) dX5_runs_81 h (fun r3 h => ?_)
  refine aw_iload_n hK 1 dX5_runs_84 rfl rfl ?_
  refine aw_iconst (v := (nI 0)) hK dX5_runs_85 rfl ?_
  obtain _ | j4 := r3
  · exact (fw_nn_no h).elim
  replace h := fw_nn_so h
  refine aw_iast hK dX5_runs_86 h (fun L5 h => ?_)
  refine aw_aload_n hK 0 dX5_runs_87 rfl rfl ?_
  refine aw_iload_n hK 1 dX5_runs_88 rfl rfl ?_
  obtain ⟨hj, h⟩ := fw_is_h h
  refine aw_callV_i (n := 1) hK fw_c7 hj (fun _ _ _ _ q => ct_X5_isHere hK.zk q) (lw_V q1462 q1464 qs59 q102 q1465) (by decide +kernel) (by decide) rfl rfl (Nat.le_of_ble_eq_true rfl) dX5_runs_89 h (fun v7 L6 _ _ h => ?_)
  refine aw_if_eq (tgt := 129) hK dX5_runs_92 (by decide) h (fun h => ?_) (fun h => ?_)
  · exact w_X5_runs_129 hK hF (fun h => hrec45 h) h
  · refine aw_aload_n hK 0 dX5_runs_95 rfl rfl ?_
    refine aw_gR hK fw_c7 17 (by decide) rfl q1210 (fun _ h9 => h9) dX5_runs_96 h (fun r8 h => ?_)
    refine aw_iload_n hK 2 dX5_runs_99 rfl rfl ?_
    obtain _ | j9 := r8
    · exact (fw_nn_no h).elim
    replace h := fw_nn_so h
    refine aw_iald hK dX5_runs_100 h (fun v10 h => ?_)
    refine aw_iconst (v := (-nI 1)) hK dX5_runs_101 rfl ?_
    refine aw_icmp_eq (tgt := 125) hK dX5_runs_102 (by decide) h (fun h => ?_) (fun h => ?_)
    · exact w_X5_runs_125 hK hF (fun h => hrec45 h) h
    · refine aw_aload_n hK 0 dX5_runs_105 rfl rfl ?_
      refine aw_gR hK fw_c7 15 (by decide) rfl q1208 (fun _ h9 => h9) dX5_runs_106 h (fun r11 h => ?_)
      refine aw_iload_n hK 1 dX5_runs_109 rfl rfl ?_
      obtain _ | j12 := r11
      · exact (fw_nn_no h).elim
      replace h := fw_nn_so h
      refine aw_iald hK dX5_runs_110 h (fun v13 h => ?_)
      refine aw_aload_n hK 0 dX5_runs_111 rfl rfl ?_
      refine aw_gR hK fw_c7 15 (by decide) rfl q1208 (fun _ h9 => h9) dX5_runs_112 h (fun r14 h => ?_)
      refine aw_aload_n hK 0 dX5_runs_115 rfl rfl ?_
      refine aw_gR hK fw_c7 17 (by decide) rfl q1210 (fun _ h9 => h9) dX5_runs_116 h (fun r15 h => ?_)
      refine aw_iload_n hK 2 dX5_runs_119 rfl rfl ?_
      obtain _ | j16 := r15
      · exact (fw_nn_no h).elim
      replace h := fw_nn_so h
      refine aw_iald hK dX5_runs_120 h (fun v17 h => ?_)
      obtain _ | j18 := r14
      · exact (fw_nn_no h).elim
      replace h := fw_nn_so h
      refine aw_iald hK dX5_runs_121 h (fun v19 h => ?_)
      refine aw_icmp_le (tgt := 129) hK dX5_runs_122 (by decide) h (fun h => ?_) (fun h => ?_)
      · exact w_X5_runs_129 hK hF (fun h => hrec45 h) h
      · exact w_X5_runs_125 hK hF (fun h => hrec45 h) h
set_option maxHeartbeats 4000000 in
set_option maxRecDepth 100000 in
theorem w_X5_runs_159 {K : Kx} {r9 : Unit} {L9 : LH} (hK : Ok K cX5_runs 4 RX5 4 86) (hF : Fin K none none L9) : ∀ {n : Nat} {j0 : Nat} {x1 : Int32} {L : LH} {mc ms : Nat}, f_X5_runs_159 n j0 x1 L = some (r9, L9, mc, ms) → AW K L mc ms 159 [(0, aR (some j0)), (1, aI x1)] [] := by
  intro n
  induction n with
  | zero =>
    intro j0 x1 L mc ms h
    have h : (none : Rs Unit) = some (r9, L9, mc, ms) := h
    cases h
  | succ n ih =>
    intro j0 x1 L mc ms h
    unfold f_X5_runs_159 at h
    refine aw_iload_n hK 1 dX5_runs_159 rfl rfl ?_
    refine aw_bipush (v := (nI 24)) hK dX5_runs_160 rfl ?_
    refine aw_icmp_ge (tgt := 176) hK dX5_runs_162 (by decide) h (fun h => ?_) (fun h => ?_)
    · exact aw_vret hK dX5_runs_176 h hF
    · refine aw_aload_n hK 0 dX5_runs_165 rfl rfl ?_
      refine aw_iload_n hK 1 dX5_runs_166 rfl rfl ?_
      obtain ⟨hj, h⟩ := fw_is_h h
      refine aw_callV_v (n := 1) hK fw_c7 hj (fun _ _ _ _ q => ct_X5_goesBy hK.zk q) (lw_V q1466 q1468 qs60 q102 q1469) (by decide +kernel) (by decide) rfl rfl (Nat.le_of_ble_eq_true rfl) dX5_runs_167 h (fun _ L1 _ _ h => ?_)
      refine aw_iinc (v := (x1 + (nI 1))) (lv' := [(1, aI (x1 + (nI 1))), (0, aR (some j0))]) hK 1 dX5_runs_170 rfl rfl (by decide) rfl ?_
      refine aw_goto (tgt := 159) hK dX5_runs_173 (by decide) ?_
      exact aw_sub [1, 0] rfl (ih h)
set_option maxHeartbeats 4000000 in
set_option maxRecDepth 100000 in
theorem w_X5_runs_45 {K : Kx} {r9 : Unit} {L9 : LH} (hK : Ok K cX5_runs 4 RX5 4 86) (hF : Fin K none none L9) : ∀ {n : Nat} {j0 : Nat} {x1 : Int32} {L : LH} {mc ms : Nat}, f_X5_runs_45 n j0 x1 L = some (r9, L9, mc, ms) → AW K L mc ms 45 [(0, aR (some j0)), (1, aI x1)] [] := by
  intro n
  induction n with
  | zero =>
    intro j0 x1 L mc ms h
    have h : (none : Rs Unit) = some (r9, L9, mc, ms) := h
    cases h
  | succ n ih =>
    intro j0 x1 L mc ms h
    unfold f_X5_runs_45 at h
    refine aw_iload_n hK 1 dX5_runs_45 rfl rfl ?_
    refine aw_bipush (v := (nI 16)) hK dX5_runs_46 rfl ?_
    refine aw_icmp_ge (tgt := 157) hK dX5_runs_48 (by decide) h (fun h => ?_) (fun h => ?_)
    · refine aw_iconst (v := (nI 0)) hK dX5_runs_157 rfl ?_
      refine aw_istore_n (lv' := [(1, aI (nI 0)), (0, aR (some j0))]) hK dX5_runs_158 rfl (by decide) rfl ?_
      exact aw_sub [1, 0] rfl (w_X5_runs_159 hK hF h)
    · refine aw_iload_n hK 1 dX5_runs_51 rfl rfl ?_
      refine aw_bipush (v := (nI 8)) hK dX5_runs_52 rfl ?_
      refine aw_idiv hK dX5_runs_54 (by decide) ?_
      refine aw_istore_n (lv' := [(2, aI (x1 / (nI 8))), (0, aR (some j0)), (1, aI x1)]) hK dX5_runs_55 rfl (by decide) rfl ?_
      refine aw_aload_n hK 1 dX5_runs_56 rfl rfl ?_
      refine aw_gR hK fw_c7 25 (by decide) rfl q1218 (fun _ h9 => h9) dX5_runs_57 h (fun r1 h => ?_)
      refine aw_iload_n hK 2 dX5_runs_60 rfl rfl ?_
      refine aw_aload_n hK 1 dX5_runs_61 rfl rfl ?_
      refine aw_iload_n hK 2 dX5_runs_62 rfl rfl ?_
      obtain ⟨hj, h⟩ := fw_is_h h
      refine aw_callV_i (n := 1) hK fw_c7 hj (fun _ _ _ _ q => ct_X5_isThereOne hK.zk q) (lw_V q1393 q1395 qs51 q102 q1396) (by decide +kernel) (by decide) rfl rfl (Nat.le_of_ble_eq_true rfl) dX5_runs_63 h (fun v3 L2 _ _ h => ?_)
      refine aw_if_eq (tgt := 78) hK dX5_runs_66 (by decide) h (fun h => ?_) (fun h => ?_)
      · refine aw_iconst (v := (nI 0)) hK dX5_runs_78 rfl ?_
        exact aw_sub [1, 2, 0] rfl (w_X5_runs_79 hK hF (fun h => ih h) h)
      · refine aw_aload_n hK 1 dX5_runs_69 rfl rfl ?_
        refine aw_gR hK fw_c7 5 (by decide) rfl q1198 (fun _ h9 => h9) dX5_runs_70 h (fun r4 h => ?_)
        refine aw_iload_n hK 2 dX5_runs_73 rfl rfl ?_
        obtain _ | j5 := r4
        · exact (fw_nn_no h).elim
        replace h := fw_nn_so h
        refine aw_iald hK dX5_runs_74 h (fun v6 h => ?_)
        refine aw_goto (tgt := 79) hK dX5_runs_75 (by decide) ?_
        exact aw_sub [1, 2, 0] rfl (w_X5_runs_79 hK hF (fun h => ih h) h)
set_option maxHeartbeats 4000000 in
set_option maxRecDepth 100000 in
theorem w_X5_runs_0 {K : Kx} {r9 : Unit} {L9 : LH} (hK : Ok K cX5_runs 4 RX5 4 86) (hF : Fin K none none L9) {j0 : Nat} {L : LH} {mc ms : Nat} (h : f_X5_runs j0 L = some (r9, L9, mc, ms)) : AW K L mc ms 0 [(0, aR (some j0))] [] := by
  unfold f_X5_runs at h
  refine aw_aload_n hK 0 dX5_runs_0 rfl rfl ?_
  refine aw_aload_n hK 0 dX5_runs_1 rfl rfl ?_
  refine aw_gI hK fw_c7 8 (by decide) rfl q1201 (fun _ h9 => h9) dX5_runs_2 h (fun v1 h => ?_)
  refine aw_pI hK fw_c7 18 (by decide) rfl q1211 (fun _ h9 => h9) rfl rfl rfl dX5_runs_5 h (fun L2 h => ?_)
  refine aw_aload_n hK 0 dX5_runs_8 rfl rfl ?_
  refine aw_bipush (v := (nI 12)) hK dX5_runs_9 rfl ?_
  refine aw_pI hK fw_c7 21 (by decide) rfl q1214 (fun _ h9 => h9) rfl rfl rfl dX5_runs_11 h (fun L3 h => ?_)
  refine aw_aload_n hK 0 dX5_runs_14 rfl rfl ?_
  refine aw_iconst (v := (-nI 1)) hK dX5_runs_15 rfl ?_
  refine aw_pI hK fw_c7 22 (by decide) rfl q1215 (fun _ h9 => h9) rfl rfl rfl dX5_runs_16 h (fun L4 h => ?_)
  refine aw_aload_n hK 0 dX5_runs_19 rfl rfl ?_
  refine aw_iconst (v := (-nI 1)) hK dX5_runs_20 rfl ?_
  refine aw_pI hK fw_c7 23 (by decide) rfl q1216 (fun _ h9 => h9) rfl rfl rfl dX5_runs_21 h (fun L5 h => ?_)
  refine aw_aload_n hK 0 dX5_runs_24 rfl rfl ?_
  refine aw_iconst (v := (nI 0)) hK dX5_runs_25 rfl ?_
  refine aw_pI hK fw_c7 24 (by decide) rfl q1217 (fun _ h9 => h9) rfl rfl rfl dX5_runs_26 h (fun L6 h => ?_)
  refine aw_aload_n hK 0 dX5_runs_29 rfl rfl ?_
  refine aw_gR hK fw_c7 17 (by decide) rfl q1210 (fun _ h9 => h9) dX5_runs_30 h (fun r7 h => ?_)
  refine aw_iconst (v := (nI 0)) hK dX5_runs_33 rfl ?_
  refine aw_iconst (v := (-nI 1)) hK dX5_runs_34 rfl ?_
  obtain _ | j8 := r7
  · exact (fw_nn_no h).elim
  replace h := fw_nn_so h
  refine aw_iast hK dX5_runs_35 h (fun L9 h => ?_)
  refine aw_aload_n hK 0 dX5_runs_36 rfl rfl ?_
  refine aw_gR hK fw_c7 17 (by decide) rfl q1210 (fun _ h9 => h9) dX5_runs_37 h (fun r10 h => ?_)
  refine aw_iconst (v := (nI 1)) hK dX5_runs_40 rfl ?_
  refine aw_iconst (v := (-nI 1)) hK dX5_runs_41 rfl ?_
  obtain _ | j11 := r10
  · exact (fw_nn_no h).elim
  replace h := fw_nn_so h
  refine aw_iast hK dX5_runs_42 h (fun L12 h => ?_)
  refine aw_iconst (v := (nI 0)) hK dX5_runs_43 rfl ?_
  refine aw_istore_n (lv' := [(1, aI (nI 0)), (0, aR (some j0))]) hK dX5_runs_44 rfl (by decide) rfl ?_
  exact aw_sub [1, 0] rfl (w_X5_runs_45 hK hF h)
theorem ct_X5_runs {Z : fw_ZT} (hZ : fw_Zok Z) {j0 : Nat} {L : LH} {r9 : Unit} {L9 : LH} {mc ms : Nat} (h : f_X5_runs j0 L = some (r9, L9, mc, ms)) : Ct Z yX5_runs (ws_ yX5_runs cX5_runs 4 none) 4 86 [aR (some j0)] L none L9 mc ms :=
  ct_of (own := RX5) hZ (by decide +kernel) rfl (Nat.le_of_ble_eq_true rfl) (fun K _ hK hF hini => w_X5_runs_0 hK hF h)
def f_X5_starts (j0 : Nat) (L : LH) : Rs Unit :=
  fw_is 8 L j0 <|
  fw_cl (f_X5_asTold j0 L) fun _ L1 =>
  fw_pI 8 L1 j0 34 (-nI 1) fun L2 =>
  fw_pI 8 L2 j0 35 (-nI 1) fun L3 =>
  some ((), L3, 0, 0)
set_option maxHeartbeats 4000000 in
set_option maxRecDepth 100000 in
theorem w_X5_starts_0 {K : Kx} {r9 : Unit} {L9 : LH} (hK : Ok K cX5_starts 1 RX5 6 140) (hF : Fin K none none L9) {j0 : Nat} {L : LH} {mc ms : Nat} (h : f_X5_starts j0 L = some (r9, L9, mc, ms)) : AW K L mc ms 0 [(0, aR (some j0))] [] := by
  unfold f_X5_starts at h
  refine aw_aload_n hK 0 dX5_starts_0 rfl rfl ?_
  obtain ⟨hj, h⟩ := fw_is_h h
  refine aw_callV_v (n := 0) hK fw_c7 hj (fun _ _ _ _ q => ct_X5_asTold hK.zk q) (lw_V q1454 q1456 qs57 q102 q1457) (by decide +kernel) (by decide) rfl rfl (Nat.le_of_ble_eq_true rfl) dX5_starts_1 h (fun _ L1 _ _ h => ?_)
  refine aw_aload_n hK 0 dX5_starts_4 rfl rfl ?_
  refine aw_iconst (v := (-nI 1)) hK dX5_starts_5 rfl ?_
  refine aw_pI hK fw_c7 34 (by decide) rfl q1227 (fun _ h9 => h9) rfl rfl rfl dX5_starts_6 h (fun L2 h => ?_)
  refine aw_aload_n hK 0 dX5_starts_9 rfl rfl ?_
  refine aw_iconst (v := (-nI 1)) hK dX5_starts_10 rfl ?_
  refine aw_pI hK fw_c7 35 (by decide) rfl q1228 (fun _ h9 => h9) rfl rfl rfl dX5_starts_11 h (fun L3 h => ?_)
  exact aw_vret hK dX5_starts_14 h hF
theorem ct_X5_starts {Z : fw_ZT} (hZ : fw_Zok Z) {j0 : Nat} {L : LH} {r9 : Unit} {L9 : LH} {mc ms : Nat} (h : f_X5_starts j0 L = some (r9, L9, mc, ms)) : Ct Z yX5_starts (ws_ yX5_starts cX5_starts 1 none) 6 140 [aR (some j0)] L none L9 mc ms :=
  ct_of (own := RX5) hZ (by decide +kernel) rfl (Nat.le_of_ble_eq_true rfl) (fun K _ hK hF hini => w_X5_starts_0 hK hF h)
def f_X5_tries_60 (j0 : Nat) (x3 : Int32) (sx0 : Int32) (sr1 : Option Nat) (L : LH) : Rs Unit :=
  fw_nn sr1 fun j1 =>
  fw_pI 8 L j1 34 sx0 fun L2 =>
  if x3 = 0 then (
    fw_gI 8 L2 j0 35 fun v3 =>
    fw_pI 8 L2 j0 35 v3 fun L4 =>
    some ((), L4, 0, 0)
  ) else (
    fw_gI 8 L2 j0 21 fun v5 =>
    fw_pI 8 L2 j0 35 v5 fun L6 =>
    some ((), L6, 0, 0)
  )
def f_X5_tries_46 (j0 : Nat) (x1 : Int32) (sx0 : Int32) (L : LH) : Rs Unit :=
  if sx0 = 0 then (
    fw_gI 8 L j0 34 fun v1 =>
    f_X5_tries_60 j0 sx0 v1 (some j0) L
  ) else (
    f_X5_tries_60 j0 sx0 x1 (some j0) L
  )
def f_X5_tries_41 (j0 : Nat) (x1 : Int32) (L : LH) : Rs Unit :=
  f_X5_tries_46 j0 x1 (nI 1) L
def f_X5_tries_45 (j0 : Nat) (x1 : Int32) (L : LH) : Rs Unit :=
  f_X5_tries_46 j0 x1 (nI 0) L
def f_X5_tries (j0 : Nat) (x1 : Int32) (x2 : Int32) (L : LH) : Rs Unit :=
  fw_is 8 L j0 <|
  fw_cl (f_X5_runs j0 L) fun _ L1 =>
  fw_gI 8 L1 j0 34 fun v2 =>
  if v2 = (-nI 1) then (
    f_X5_tries_41 j0 x1 L1
  ) else (
    if x2 = 0 then (
      fw_gI 8 L1 j0 21 fun v5 =>
      fw_gI 8 L1 j0 35 fun v6 =>
      if v5 ≤ v6 then (
        f_X5_tries_45 j0 x1 L1
      ) else (
        f_X5_tries_41 j0 x1 L1
      )
    ) else (
      fw_gI 8 L1 j0 21 fun v3 =>
      fw_gI 8 L1 j0 35 fun v4 =>
      if v4 ≤ v3 then (
        f_X5_tries_45 j0 x1 L1
      ) else (
        f_X5_tries_41 j0 x1 L1
      )
    )
  )
set_option maxHeartbeats 4000000 in
set_option maxRecDepth 100000 in
theorem w_X5_tries_60 {K : Kx} {r9 : Unit} {L9 : LH} (hK : Ok K cX5_tries 4 RX5 5 109) (hF : Fin K none none L9) {j0 : Nat} {x3 : Int32} {sx0 : Int32} {sr1 : Option Nat} {L : LH} {mc ms : Nat} (h : f_X5_tries_60 j0 x3 sx0 sr1 L = some (r9, L9, mc, ms)) : AW K L mc ms 60 [(0, aR (some j0)), (3, aI x3)] [aI sx0, aR sr1] := by
  unfold f_X5_tries_60 at h
  obtain _ | j1 := sr1
  · exact (fw_nn_no h).elim
  replace h := fw_nn_so h
  refine aw_pI hK fw_c7 34 (by decide) rfl q1227 (fun _ h9 => h9) rfl rfl rfl dX5_tries_60 h (fun L2 h => ?_)
  refine aw_aload_n hK 0 dX5_tries_63 rfl rfl ?_
  refine aw_iload_n hK 1 dX5_tries_64 rfl rfl ?_
  refine aw_if_eq (tgt := 75) hK dX5_tries_65 (by decide) h (fun h => ?_) (fun h => ?_)
  · refine aw_aload_n hK 0 dX5_tries_75 rfl rfl ?_
    refine aw_gI hK fw_c7 35 (by decide) rfl q1228 (fun _ h9 => h9) dX5_tries_76 h (fun v3 h => ?_)
    refine aw_pI hK fw_c7 35 (by decide) rfl q1228 (fun _ h9 => h9) rfl rfl rfl dX5_tries_79 h (fun L4 h => ?_)
    exact aw_vret hK dX5_tries_82 h hF
  · refine aw_aload_n hK 0 dX5_tries_68 rfl rfl ?_
    refine aw_gI hK fw_c7 21 (by decide) rfl q1214 (fun _ h9 => h9) dX5_tries_69 h (fun v5 h => ?_)
    refine aw_goto (tgt := 79) hK dX5_tries_72 (by decide) ?_
    refine aw_pI hK fw_c7 35 (by decide) rfl q1228 (fun _ h9 => h9) rfl rfl rfl dX5_tries_79 h (fun L6 h => ?_)
    exact aw_vret hK dX5_tries_82 h hF
set_option maxHeartbeats 4000000 in
set_option maxRecDepth 100000 in
theorem w_X5_tries_46 {K : Kx} {r9 : Unit} {L9 : LH} (hK : Ok K cX5_tries 4 RX5 5 109) (hF : Fin K none none L9) {j0 : Nat} {x1 : Int32} {sx0 : Int32} {L : LH} {mc ms : Nat} (h : f_X5_tries_46 j0 x1 sx0 L = some (r9, L9, mc, ms)) : AW K L mc ms 46 [(0, aR (some j0)), (1, aI x1)] [aI sx0] := by
  unfold f_X5_tries_46 at h
  refine aw_istore_n (lv' := [(3, aI sx0), (0, aR (some j0)), (1, aI x1)]) hK dX5_tries_46 rfl (by decide) rfl ?_
  refine aw_aload_n hK 1 dX5_tries_47 rfl rfl ?_
  refine aw_iload_n hK 0 dX5_tries_48 rfl rfl ?_
  refine aw_if_eq (tgt := 56) hK dX5_tries_49 (by decide) h (fun h => ?_) (fun h => ?_)
  · refine aw_aload_n hK 1 dX5_tries_56 rfl rfl ?_
    refine aw_gI hK fw_c7 34 (by decide) rfl q1227 (fun _ h9 => h9) dX5_tries_57 h (fun v1 h => ?_)
    exact aw_sub [1, 0] rfl (w_X5_tries_60 hK hF h)
  · refine aw_iload_n hK 2 dX5_tries_52 rfl rfl ?_
    refine aw_goto (tgt := 60) hK dX5_tries_53 (by decide) ?_
    exact aw_sub [1, 0] rfl (w_X5_tries_60 hK hF h)
set_option maxHeartbeats 4000000 in
set_option maxRecDepth 100000 in
theorem w_X5_tries_41 {K : Kx} {r9 : Unit} {L9 : LH} (hK : Ok K cX5_tries 4 RX5 5 109) (hF : Fin K none none L9) {j0 : Nat} {x1 : Int32} {L : LH} {mc ms : Nat} (h : f_X5_tries_41 j0 x1 L = some (r9, L9, mc, ms)) : AW K L mc ms 41 [(0, aR (some j0)), (1, aI x1)] [] := by
  unfold f_X5_tries_41 at h
  refine aw_iconst (v := (nI 1)) hK dX5_tries_41 rfl ?_
  refine aw_goto (tgt := 46) hK dX5_tries_42 (by decide) ?_
  exact w_X5_tries_46 hK hF h
set_option maxHeartbeats 4000000 in
set_option maxRecDepth 100000 in
theorem w_X5_tries_45 {K : Kx} {r9 : Unit} {L9 : LH} (hK : Ok K cX5_tries 4 RX5 5 109) (hF : Fin K none none L9) {j0 : Nat} {x1 : Int32} {L : LH} {mc ms : Nat} (h : f_X5_tries_45 j0 x1 L = some (r9, L9, mc, ms)) : AW K L mc ms 45 [(0, aR (some j0)), (1, aI x1)] [] := by
  unfold f_X5_tries_45 at h
  refine aw_iconst (v := (nI 0)) hK dX5_tries_45 rfl ?_
  exact w_X5_tries_46 hK hF h
set_option maxHeartbeats 4000000 in
set_option maxRecDepth 100000 in
theorem w_X5_tries_0 {K : Kx} {r9 : Unit} {L9 : LH} (hK : Ok K cX5_tries 4 RX5 5 109) (hF : Fin K none none L9) {j0 : Nat} {x1 : Int32} {x2 : Int32} {L : LH} {mc ms : Nat} (h : f_X5_tries j0 x1 x2 L = some (r9, L9, mc, ms)) : AW K L mc ms 0 [(0, aR (some j0)), (1, aI x1), (2, aI x2)] [] := by
  unfold f_X5_tries at h
  refine aw_aload_n hK 0 dX5_tries_0 rfl rfl ?_
  obtain ⟨hj, h⟩ := fw_is_h h
  refine aw_callV_v (n := 0) hK fw_c7 hj (fun _ _ _ _ q => ct_X5_runs hK.zk q) (lw_V q1458 q1460 qs58 q102 q1461) (by decide +kernel) (by decide) rfl rfl (Nat.le_of_ble_eq_true rfl) dX5_tries_1 h (fun _ L1 _ _ h => ?_)
  refine aw_aload_n hK 0 dX5_tries_4 rfl rfl ?_
  refine aw_gI hK fw_c7 34 (by decide) rfl q1227 (fun _ h9 => h9) dX5_tries_5 h (fun v2 h => ?_)
  refine aw_iconst (v := (-nI 1)) hK dX5_tries_8 rfl ?_
  refine aw_icmp_eq (tgt := 41) hK dX5_tries_9 (by decide) h (fun h => ?_) (fun h => ?_)
  · exact aw_sub [0, 1] rfl (w_X5_tries_41 hK hF h)
  · refine aw_iload_n hK 2 dX5_tries_12 rfl rfl ?_
    refine aw_if_ne (tgt := 30) hK dX5_tries_13 (by decide) h (fun h => ?_) (fun h => ?_)
    · refine aw_aload_n hK 0 dX5_tries_30 rfl rfl ?_
      refine aw_gI hK fw_c7 21 (by decide) rfl q1214 (fun _ h9 => h9) dX5_tries_31 h (fun v3 h => ?_)
      refine aw_aload_n hK 0 dX5_tries_34 rfl rfl ?_
      refine aw_gI hK fw_c7 35 (by decide) rfl q1228 (fun _ h9 => h9) dX5_tries_35 h (fun v4 h => ?_)
      refine aw_icmp_ge (tgt := 45) hK dX5_tries_38 (by decide) h (fun h => ?_) (fun h => ?_)
      · exact aw_sub [0, 1] rfl (w_X5_tries_45 hK hF h)
      · exact aw_sub [0, 1] rfl (w_X5_tries_41 hK hF h)
    · refine aw_aload_n hK 0 dX5_tries_16 rfl rfl ?_
      refine aw_gI hK fw_c7 21 (by decide) rfl q1214 (fun _ h9 => h9) dX5_tries_17 h (fun v5 h => ?_)
      refine aw_aload_n hK 0 dX5_tries_20 rfl rfl ?_
      refine aw_gI hK fw_c7 35 (by decide) rfl q1228 (fun _ h9 => h9) dX5_tries_21 h (fun v6 h => ?_)
      refine aw_icmp_le (tgt := 45) hK dX5_tries_24 (by decide) h (fun h => ?_) (fun h => ?_)
      · exact aw_sub [0, 1] rfl (w_X5_tries_45 hK hF h)
      · refine aw_goto (tgt := 41) hK dX5_tries_27 (by decide) ?_
        exact aw_sub [0, 1] rfl (w_X5_tries_41 hK hF h)
theorem ct_X5_tries {Z : fw_ZT} (hZ : fw_Zok Z) {j0 : Nat} {x1 : Int32} {x2 : Int32} {L : LH} {r9 : Unit} {L9 : LH} {mc ms : Nat} (h : f_X5_tries j0 x1 x2 L = some (r9, L9, mc, ms)) : Ct Z yX5_tries (ws_ yX5_tries cX5_tries 4 none) 5 109 [aR (some j0), aI x1, aI x2] L none L9 mc ms :=
  ct_of (own := RX5) hZ (by decide +kernel) rfl (Nat.le_of_ble_eq_true rfl) (fun K _ hK hF hini => w_X5_tries_0 hK hF h)
def f_X5_swapOf_31 (rec12 : Nat → Int32 → Int32 → Int32 → Int32 → LH → Rs Int32) : Nat → Nat → Int32 → Int32 → Int32 → Int32 → Int32 → LH → Rs Int32
  | 0, _, _, _, _, _, _, _ => none
  | n + 1, j0, x1, x2, x3, x4, x5, L =>
    fw_gR 8 L j0 2 fun r1 =>
    fw_nn r1 fun j2 =>
    fw_rd 100 L j2 x1 fun v3 =>
    if (x3 + v3) ≤ x5 then (
      rec12 j0 x1 x2 x3 (x4 + (nI 1)) L
    ) else (
      fw_gR 8 L j0 15 fun r4 =>
      fw_nn r4 fun j5 =>
      fw_wr 100 L j5 x4 (x5 - x5 / (nI 8) * (nI 8)) fun L6 =>
      fw_gR 8 L6 j0 15 fun r7 =>
      fw_nn r7 fun j8 =>
      fw_wr 100 L6 j8 x5 (x4 - x4 / (nI 8) * (nI 8)) fun L9 =>
      fw_is 8 L9 j0 <|
      fw_cl (f_X5_tries j0 (((nI 16) * x4) + x5) x1 L9) fun _ L10 =>
      fw_gR 8 L10 j0 15 fun r11 =>
      fw_nn r11 fun j12 =>
      fw_wr 100 L10 j12 x4 (x4 - x4 / (nI 8) * (nI 8)) fun L13 =>
      fw_gR 8 L13 j0 15 fun r14 =>
      fw_nn r14 fun j15 =>
      fw_wr 100 L13 j15 x5 (x5 - x5 / (nI 8) * (nI 8)) fun L16 =>
      f_X5_swapOf_31 rec12 n j0 x1 x2 x3 x4 (x5 + (nI 1)) L16
    )
def f_X5_swapOf_12 : Nat → Nat → Int32 → Int32 → Int32 → Int32 → LH → Rs Int32
  | 0, _, _, _, _, _, _ => none
  | n + 1, j0, x1, x2, x3, x4, L =>
    fw_gR 8 L j0 2 fun r1 =>
    fw_nn r1 fun j2 =>
    fw_rd 100 L j2 x1 fun v3 =>
    if (x3 + v3) ≤ x4 then (
      fw_gI 8 L j0 34 fun v4 =>
      if v4 = (-nI 1) then (
        some ((-nI 1), L, 0, 0)
      ) else (
        if x2 = 0 then (
          fw_gI 8 L j0 34 fun v7 =>
          some ((v7 / (nI 16)), L, 0, 0)
        ) else (
          if x2 = (nI 1) then (
            fw_gI 8 L j0 34 fun v6 =>
            some ((v6 - v6 / (nI 16) * (nI 16)), L, 0, 0)
          ) else (
            fw_gI 8 L j0 35 fun v5 =>
            some (v5, L, 0, 0)
          )
        )
      )
    ) else (
      f_X5_swapOf_31 (f_X5_swapOf_12 n) fw_fuel j0 x1 x2 x3 x4 (x4 + (nI 1)) L
    )
def f_X5_swapOf (j0 : Nat) (x1 : Int32) (x2 : Int32) (L : LH) : Rs Int32 :=
  fw_is 8 L j0 <|
  fw_cl (f_X5_starts j0 L) fun _ L1 =>
  f_X5_swapOf_12 fw_fuel j0 x1 x2 ((nI 8) * x1) ((nI 8) * x1) L1
set_option maxHeartbeats 4000000 in
set_option maxRecDepth 100000 in
theorem w_X5_swapOf_31 {K : Kx} {r9 : Int32} {L9 : LH} (hK : Ok K cX5_swapOf 6 RX5 7 160) (hF : Fin K (some (.int)) (some (aI r9)) L9) {rec12 : Nat → Int32 → Int32 → Int32 → Int32 → LH → Rs Int32} (hrec12 : ∀ {j0 : Nat} {x1 : Int32} {x2 : Int32} {x3 : Int32} {x4 : Int32} {L : LH} {mc ms : Nat}, rec12 j0 x1 x2 x3 x4 L = some (r9, L9, mc, ms) → AW K L mc ms 12 [(0, aR (some j0)), (1, aI x1), (2, aI x2), (3, aI x3), (4, aI x4)] []) : ∀ {n : Nat} {j0 : Nat} {x1 : Int32} {x2 : Int32} {x3 : Int32} {x4 : Int32} {x5 : Int32} {L : LH} {mc ms : Nat}, f_X5_swapOf_31 rec12 n j0 x1 x2 x3 x4 x5 L = some (r9, L9, mc, ms) → AW K L mc ms 31 [(0, aR (some j0)), (1, aI x1), (2, aI x2), (3, aI x3), (4, aI x4), (5, aI x5)] [] := by
  intro n
  induction n with
  | zero =>
    intro j0 x1 x2 x3 x4 x5 L mc ms h
    have h : (none : Rs Int32) = some (r9, L9, mc, ms) := h
    cases h
  | succ n ih =>
    intro j0 x1 x2 x3 x4 x5 L mc ms h
    unfold f_X5_swapOf_31 at h
    refine aw_iload hK 5 dX5_swapOf_31 rfl ?_
    refine aw_iload_n hK 3 dX5_swapOf_33 rfl rfl ?_
    refine aw_aload_n hK 0 dX5_swapOf_34 rfl rfl ?_
    refine aw_gR hK fw_c7 2 (by decide) rfl q1195 (fun _ h9 => h9) dX5_swapOf_35 h (fun r1 h => ?_)
    refine aw_iload_n hK 1 dX5_swapOf_38 rfl rfl ?_
    obtain _ | j2 := r1
    · exact (fw_nn_no h).elim
    replace h := fw_nn_so h
    refine aw_iald hK dX5_swapOf_39 h (fun v3 h => ?_)
    refine aw_iadd hK dX5_swapOf_40 ?_
    refine aw_icmp_ge (tgt := 111) hK dX5_swapOf_41 (by decide) h (fun h => ?_) (fun h => ?_)
    · refine aw_iinc (v := (x4 + (nI 1))) (lv' := [(4, aI (x4 + (nI 1))), (0, aR (some j0)), (1, aI x1), (2, aI x2), (3, aI x3), (5, aI x5)]) hK 4 dX5_swapOf_111 rfl rfl (by decide) rfl ?_
      refine aw_goto (tgt := 12) hK dX5_swapOf_114 (by decide) ?_
      exact aw_sub [1, 2, 3, 4, 0] rfl (hrec12 h)
    · refine aw_aload_n hK 0 dX5_swapOf_44 rfl rfl ?_
      refine aw_gR hK fw_c7 15 (by decide) rfl q1208 (fun _ h9 => h9) dX5_swapOf_45 h (fun r4 h => ?_)
      refine aw_iload hK 4 dX5_swapOf_48 rfl ?_
      refine aw_iload hK 5 dX5_swapOf_50 rfl ?_
      refine aw_bipush (v := (nI 8)) hK dX5_swapOf_52 rfl ?_
      refine aw_irem hK dX5_swapOf_54 (by decide) ?_
      obtain _ | j5 := r4
      · exact (fw_nn_no h).elim
      replace h := fw_nn_so h
      refine aw_iast hK dX5_swapOf_55 h (fun L6 h => ?_)
      refine aw_aload_n hK 0 dX5_swapOf_56 rfl rfl ?_
      refine aw_gR hK fw_c7 15 (by decide) rfl q1208 (fun _ h9 => h9) dX5_swapOf_57 h (fun r7 h => ?_)
      refine aw_iload hK 5 dX5_swapOf_60 rfl ?_
      refine aw_iload hK 4 dX5_swapOf_62 rfl ?_
      refine aw_bipush (v := (nI 8)) hK dX5_swapOf_64 rfl ?_
      refine aw_irem hK dX5_swapOf_66 (by decide) ?_
      obtain _ | j8 := r7
      · exact (fw_nn_no h).elim
      replace h := fw_nn_so h
      refine aw_iast hK dX5_swapOf_67 h (fun L9 h => ?_)
      refine aw_aload_n hK 0 dX5_swapOf_68 rfl rfl ?_
      refine aw_bipush (v := (nI 16)) hK dX5_swapOf_69 rfl ?_
      refine aw_iload hK 4 dX5_swapOf_71 rfl ?_
      refine aw_imul hK dX5_swapOf_73 ?_
      refine aw_iload hK 5 dX5_swapOf_74 rfl ?_
      refine aw_iadd hK dX5_swapOf_76 ?_
      refine aw_iload_n hK 1 dX5_swapOf_77 rfl rfl ?_
      obtain ⟨hj, h⟩ := fw_is_h h
      refine aw_callV_v (n := 2) hK fw_c7 hj (fun _ _ _ _ q => ct_X5_tries hK.zk q) (lw_V q1557 q1559 qs74 q102 q1560) (by decide +kernel) (by decide) rfl rfl (Nat.le_of_ble_eq_true rfl) dX5_swapOf_78 h (fun _ L10 _ _ h => ?_)
      refine aw_aload_n hK 0 dX5_swapOf_81 rfl rfl ?_
      refine aw_gR hK fw_c7 15 (by decide) rfl q1208 (fun _ h9 => h9) dX5_swapOf_82 h (fun r11 h => ?_)
      refine aw_iload hK 4 dX5_swapOf_85 rfl ?_
      refine aw_iload hK 4 dX5_swapOf_87 rfl ?_
      refine aw_bipush (v := (nI 8)) hK dX5_swapOf_89 rfl ?_
      refine aw_irem hK dX5_swapOf_91 (by decide) ?_
      obtain _ | j12 := r11
      · exact (fw_nn_no h).elim
      replace h := fw_nn_so h
      refine aw_iast hK dX5_swapOf_92 h (fun L13 h => ?_)
      refine aw_aload_n hK 0 dX5_swapOf_93 rfl rfl ?_
      refine aw_gR hK fw_c7 15 (by decide) rfl q1208 (fun _ h9 => h9) dX5_swapOf_94 h (fun r14 h => ?_)
      refine aw_iload hK 5 dX5_swapOf_97 rfl ?_
      refine aw_iload hK 5 dX5_swapOf_99 rfl ?_
      refine aw_bipush (v := (nI 8)) hK dX5_swapOf_101 rfl ?_
      refine aw_irem hK dX5_swapOf_103 (by decide) ?_
      obtain _ | j15 := r14
      · exact (fw_nn_no h).elim
      replace h := fw_nn_so h
      refine aw_iast hK dX5_swapOf_104 h (fun L16 h => ?_)
      refine aw_iinc (v := (x5 + (nI 1))) (lv' := [(5, aI (x5 + (nI 1))), (0, aR (some j0)), (1, aI x1), (2, aI x2), (3, aI x3), (4, aI x4)]) hK 5 dX5_swapOf_105 rfl rfl (by decide) rfl ?_
      refine aw_goto (tgt := 31) hK dX5_swapOf_108 (by decide) ?_
      exact aw_sub [1, 2, 3, 4, 5, 0] rfl (ih h)
set_option maxHeartbeats 4000000 in
set_option maxRecDepth 100000 in
theorem w_X5_swapOf_12 {K : Kx} {r9 : Int32} {L9 : LH} (hK : Ok K cX5_swapOf 6 RX5 7 160) (hF : Fin K (some (.int)) (some (aI r9)) L9) : ∀ {n : Nat} {j0 : Nat} {x1 : Int32} {x2 : Int32} {x3 : Int32} {x4 : Int32} {L : LH} {mc ms : Nat}, f_X5_swapOf_12 n j0 x1 x2 x3 x4 L = some (r9, L9, mc, ms) → AW K L mc ms 12 [(0, aR (some j0)), (1, aI x1), (2, aI x2), (3, aI x3), (4, aI x4)] [] := by
  intro n
  induction n with
  | zero =>
    intro j0 x1 x2 x3 x4 L mc ms h
    have h : (none : Rs Int32) = some (r9, L9, mc, ms) := h
    cases h
  | succ n ih =>
    intro j0 x1 x2 x3 x4 L mc ms h
    unfold f_X5_swapOf_12 at h
    refine aw_iload hK 4 dX5_swapOf_12 rfl ?_
    refine aw_iload_n hK 3 dX5_swapOf_14 rfl rfl ?_
    refine aw_aload_n hK 0 dX5_swapOf_15 rfl rfl ?_
    refine aw_gR hK fw_c7 2 (by decide) rfl q1195 (fun _ h9 => h9) dX5_swapOf_16 h (fun r1 h => ?_)
    refine aw_iload_n hK 1 dX5_swapOf_19 rfl rfl ?_
    obtain _ | j2 := r1
    · exact (fw_nn_no h).elim
    replace h := fw_nn_so h
    refine aw_iald hK dX5_swapOf_20 h (fun v3 h => ?_)
    refine aw_iadd hK dX5_swapOf_21 ?_
    refine aw_icmp_ge (tgt := 117) hK dX5_swapOf_22 (by decide) h (fun h => ?_) (fun h => ?_)
    · refine aw_aload_n hK 0 dX5_swapOf_117 rfl rfl ?_
      refine aw_gI hK fw_c7 34 (by decide) rfl q1227 (fun _ h9 => h9) dX5_swapOf_118 h (fun v4 h => ?_)
      refine aw_iconst (v := (-nI 1)) hK dX5_swapOf_121 rfl ?_
      refine aw_icmp_ne (tgt := 129) hK dX5_swapOf_122 (by decide) h (fun h => ?_) (fun h => ?_)
      · refine aw_iload_n hK 2 dX5_swapOf_129 rfl rfl ?_
        refine aw_if_ne (tgt := 143) hK dX5_swapOf_130 (by decide) h (fun h => ?_) (fun h => ?_)
        · refine aw_iload_n hK 2 dX5_swapOf_143 rfl rfl ?_
          refine aw_iconst (v := (nI 1)) hK dX5_swapOf_144 rfl ?_
          refine aw_icmp_ne (tgt := 158) hK dX5_swapOf_145 (by decide) h (fun h => ?_) (fun h => ?_)
          · refine aw_aload_n hK 0 dX5_swapOf_158 rfl rfl ?_
            refine aw_gI hK fw_c7 35 (by decide) rfl q1228 (fun _ h9 => h9) dX5_swapOf_159 h (fun v5 h => ?_)
            exact aw_iret hK dX5_swapOf_162 h hF
          · refine aw_aload_n hK 0 dX5_swapOf_148 rfl rfl ?_
            refine aw_gI hK fw_c7 34 (by decide) rfl q1227 (fun _ h9 => h9) dX5_swapOf_149 h (fun v6 h => ?_)
            refine aw_bipush (v := (nI 16)) hK dX5_swapOf_152 rfl ?_
            refine aw_irem hK dX5_swapOf_154 (by decide) ?_
            refine aw_goto (tgt := 162) hK dX5_swapOf_155 (by decide) ?_
            exact aw_iret hK dX5_swapOf_162 h hF
        · refine aw_aload_n hK 0 dX5_swapOf_133 rfl rfl ?_
          refine aw_gI hK fw_c7 34 (by decide) rfl q1227 (fun _ h9 => h9) dX5_swapOf_134 h (fun v7 h => ?_)
          refine aw_bipush (v := (nI 16)) hK dX5_swapOf_137 rfl ?_
          refine aw_idiv hK dX5_swapOf_139 (by decide) ?_
          refine aw_goto (tgt := 162) hK dX5_swapOf_140 (by decide) ?_
          exact aw_iret hK dX5_swapOf_162 h hF
      · refine aw_iconst (v := (-nI 1)) hK dX5_swapOf_125 rfl ?_
        refine aw_goto (tgt := 162) hK dX5_swapOf_126 (by decide) ?_
        exact aw_iret hK dX5_swapOf_162 h hF
    · refine aw_iload hK 4 dX5_swapOf_25 rfl ?_
      refine aw_iconst (v := (nI 1)) hK dX5_swapOf_27 rfl ?_
      refine aw_iadd hK dX5_swapOf_28 ?_
      refine aw_istore (lv' := [(5, aI (x4 + (nI 1))), (0, aR (some j0)), (1, aI x1), (2, aI x2), (3, aI x3), (4, aI x4)]) hK dX5_swapOf_29 (by decide) rfl ?_
      exact aw_sub [1, 2, 3, 4, 5, 0] rfl (w_X5_swapOf_31 hK hF (fun h => ih h) h)
set_option maxHeartbeats 4000000 in
set_option maxRecDepth 100000 in
theorem w_X5_swapOf_0 {K : Kx} {r9 : Int32} {L9 : LH} (hK : Ok K cX5_swapOf 6 RX5 7 160) (hF : Fin K (some (.int)) (some (aI r9)) L9) {j0 : Nat} {x1 : Int32} {x2 : Int32} {L : LH} {mc ms : Nat} (h : f_X5_swapOf j0 x1 x2 L = some (r9, L9, mc, ms)) : AW K L mc ms 0 [(0, aR (some j0)), (1, aI x1), (2, aI x2)] [] := by
  unfold f_X5_swapOf at h
  refine aw_aload_n hK 0 dX5_swapOf_0 rfl rfl ?_
  obtain ⟨hj, h⟩ := fw_is_h h
  refine aw_callV_v (n := 0) hK fw_c7 hj (fun _ _ _ _ q => ct_X5_starts hK.zk q) (lw_V q1553 q1555 qs73 q102 q1556) (by decide +kernel) (by decide) rfl rfl (Nat.le_of_ble_eq_true rfl) dX5_swapOf_1 h (fun _ L1 _ _ h => ?_)
  refine aw_bipush (v := (nI 8)) hK dX5_swapOf_4 rfl ?_
  refine aw_iload_n hK 1 dX5_swapOf_6 rfl rfl ?_
  refine aw_imul hK dX5_swapOf_7 ?_
  refine aw_istore_n (lv' := [(3, aI ((nI 8) * x1)), (0, aR (some j0)), (1, aI x1), (2, aI x2)]) hK dX5_swapOf_8 rfl (by decide) rfl ?_
  refine aw_iload_n hK 0 dX5_swapOf_9 rfl rfl ?_
  refine aw_istore (lv' := [(4, aI ((nI 8) * x1)), (3, aI ((nI 8) * x1)), (0, aR (some j0)), (1, aI x1), (2, aI x2)]) hK dX5_swapOf_10 (by decide) rfl ?_
  exact aw_sub [2, 3, 4, 1, 0] rfl (w_X5_swapOf_12 hK hF h)
theorem ct_X5_swapOf {Z : fw_ZT} (hZ : fw_Zok Z) {j0 : Nat} {x1 : Int32} {x2 : Int32} {L : LH} {r9 : Int32} {L9 : LH} {mc ms : Nat} (h : f_X5_swapOf j0 x1 x2 L = some (r9, L9, mc, ms)) : Ct Z yX5_swapOf (ws_ yX5_swapOf cX5_swapOf 6 (some (.int))) 7 160 [aR (some j0), aI x1, aI x2] L (some (aI r9)) L9 mc ms :=
  ct_of (own := RX5) hZ (by decide +kernel) rfl (Nat.le_of_ble_eq_true rfl) (fun K _ hK hF hini => w_X5_swapOf_0 hK hF h)
def f_X5_outOf_9 : Nat → Nat → Int32 → Int32 → Int32 → LH → Rs Int32
  | 0, _, _, _, _, _ => none
  | n + 1, j0, x1, x2, x3, L =>
    fw_gR 8 L j0 2 fun r1 =>
    fw_nn r1 fun j2 =>
    fw_rd 100 L j2 x1 fun v3 =>
    if (((nI 8) * x1) + v3) ≤ x3 then (
      if x2 = 0 then (
        fw_gI 8 L j0 34 fun v5 =>
        some (v5, L, 0, 0)
      ) else (
        fw_gI 8 L j0 35 fun v4 =>
        some (v4, L, 0, 0)
      )
    ) else (
      fw_pI 8 L j0 16 x3 fun L6 =>
      fw_is 8 L6 j0 <|
      fw_cl (f_X5_tries j0 x3 x1 L6) fun _ L7 =>
      f_X5_outOf_9 n j0 x1 x2 (x3 + (nI 1)) L7
    )
def f_X5_outOf (j0 : Nat) (x1 : Int32) (x2 : Int32) (L : LH) : Rs Int32 :=
  fw_is 8 L j0 <|
  fw_cl (f_X5_starts j0 L) fun _ L1 =>
  f_X5_outOf_9 fw_fuel j0 x1 x2 ((nI 8) * x1) L1
set_option maxHeartbeats 4000000 in
set_option maxRecDepth 100000 in
theorem w_X5_outOf_9 {K : Kx} {r9 : Int32} {L9 : LH} (hK : Ok K cX5_outOf 4 RX5 7 160) (hF : Fin K (some (.int)) (some (aI r9)) L9) : ∀ {n : Nat} {j0 : Nat} {x1 : Int32} {x2 : Int32} {x3 : Int32} {L : LH} {mc ms : Nat}, f_X5_outOf_9 n j0 x1 x2 x3 L = some (r9, L9, mc, ms) → AW K L mc ms 9 [(0, aR (some j0)), (1, aI x1), (2, aI x2), (3, aI x3)] [] := by
  intro n
  induction n with
  | zero =>
    intro j0 x1 x2 x3 L mc ms h
    have h : (none : Rs Int32) = some (r9, L9, mc, ms) := h
    cases h
  | succ n ih =>
    intro j0 x1 x2 x3 L mc ms h
    unfold f_X5_outOf_9 at h
    refine aw_iload_n hK 3 dX5_outOf_9 rfl rfl ?_
    refine aw_bipush (v := (nI 8)) hK dX5_outOf_10 rfl ?_
    refine aw_iload_n hK 1 dX5_outOf_12 rfl rfl ?_
    refine aw_imul hK dX5_outOf_13 ?_
    refine aw_aload_n hK 0 dX5_outOf_14 rfl rfl ?_
    refine aw_gR hK fw_c7 2 (by decide) rfl q1195 (fun _ h9 => h9) dX5_outOf_15 h (fun r1 h => ?_)
    refine aw_iload_n hK 1 dX5_outOf_18 rfl rfl ?_
    obtain _ | j2 := r1
    · exact (fw_nn_no h).elim
    replace h := fw_nn_so h
    refine aw_iald hK dX5_outOf_19 h (fun v3 h => ?_)
    refine aw_iadd hK dX5_outOf_20 ?_
    refine aw_icmp_ge (tgt := 41) hK dX5_outOf_21 (by decide) h (fun h => ?_) (fun h => ?_)
    · refine aw_iload_n hK 2 dX5_outOf_41 rfl rfl ?_
      refine aw_if_ne (tgt := 52) hK dX5_outOf_42 (by decide) h (fun h => ?_) (fun h => ?_)
      · refine aw_aload_n hK 0 dX5_outOf_52 rfl rfl ?_
        refine aw_gI hK fw_c7 35 (by decide) rfl q1228 (fun _ h9 => h9) dX5_outOf_53 h (fun v4 h => ?_)
        exact aw_iret hK dX5_outOf_56 h hF
      · refine aw_aload_n hK 0 dX5_outOf_45 rfl rfl ?_
        refine aw_gI hK fw_c7 34 (by decide) rfl q1227 (fun _ h9 => h9) dX5_outOf_46 h (fun v5 h => ?_)
        refine aw_goto (tgt := 56) hK dX5_outOf_49 (by decide) ?_
        exact aw_iret hK dX5_outOf_56 h hF
    · refine aw_aload_n hK 0 dX5_outOf_24 rfl rfl ?_
      refine aw_iload_n hK 3 dX5_outOf_25 rfl rfl ?_
      refine aw_pI hK fw_c7 16 (by decide) rfl q1209 (fun _ h9 => h9) rfl rfl rfl dX5_outOf_26 h (fun L6 h => ?_)
      refine aw_aload_n hK 0 dX5_outOf_29 rfl rfl ?_
      refine aw_iload_n hK 3 dX5_outOf_30 rfl rfl ?_
      refine aw_iload_n hK 1 dX5_outOf_31 rfl rfl ?_
      obtain ⟨hj, h⟩ := fw_is_h h
      refine aw_callV_v (n := 2) hK fw_c7 hj (fun _ _ _ _ q => ct_X5_tries hK.zk q) (lw_V q1557 q1559 qs74 q102 q1560) (by decide +kernel) (by decide) rfl rfl (Nat.le_of_ble_eq_true rfl) dX5_outOf_32 h (fun _ L7 _ _ h => ?_)
      refine aw_iinc (v := (x3 + (nI 1))) (lv' := [(3, aI (x3 + (nI 1))), (0, aR (some j0)), (1, aI x1), (2, aI x2)]) hK 3 dX5_outOf_35 rfl rfl (by decide) rfl ?_
      refine aw_goto (tgt := 9) hK dX5_outOf_38 (by decide) ?_
      exact aw_sub [1, 2, 3, 0] rfl (ih h)
set_option maxHeartbeats 4000000 in
set_option maxRecDepth 100000 in
theorem w_X5_outOf_0 {K : Kx} {r9 : Int32} {L9 : LH} (hK : Ok K cX5_outOf 4 RX5 7 160) (hF : Fin K (some (.int)) (some (aI r9)) L9) {j0 : Nat} {x1 : Int32} {x2 : Int32} {L : LH} {mc ms : Nat} (h : f_X5_outOf j0 x1 x2 L = some (r9, L9, mc, ms)) : AW K L mc ms 0 [(0, aR (some j0)), (1, aI x1), (2, aI x2)] [] := by
  unfold f_X5_outOf at h
  refine aw_aload_n hK 0 dX5_outOf_0 rfl rfl ?_
  obtain ⟨hj, h⟩ := fw_is_h h
  refine aw_callV_v (n := 0) hK fw_c7 hj (fun _ _ _ _ q => ct_X5_starts hK.zk q) (lw_V q1553 q1555 qs73 q102 q1556) (by decide +kernel) (by decide) rfl rfl (Nat.le_of_ble_eq_true rfl) dX5_outOf_1 h (fun _ L1 _ _ h => ?_)
  refine aw_bipush (v := (nI 8)) hK dX5_outOf_4 rfl ?_
  refine aw_iload_n hK 1 dX5_outOf_6 rfl rfl ?_
  refine aw_imul hK dX5_outOf_7 ?_
  refine aw_istore_n (lv' := [(3, aI ((nI 8) * x1)), (0, aR (some j0)), (1, aI x1), (2, aI x2)]) hK dX5_outOf_8 rfl (by decide) rfl ?_
  exact aw_sub [1, 2, 3, 0] rfl (w_X5_outOf_9 hK hF h)
theorem ct_X5_outOf {Z : fw_ZT} (hZ : fw_Zok Z) {j0 : Nat} {x1 : Int32} {x2 : Int32} {L : LH} {r9 : Int32} {L9 : LH} {mc ms : Nat} (h : f_X5_outOf j0 x1 x2 L = some (r9, L9, mc, ms)) : Ct Z yX5_outOf (ws_ yX5_outOf cX5_outOf 4 (some (.int))) 7 160 [aR (some j0), aI x1, aI x2] L (some (aI r9)) L9 mc ms :=
  ct_of (own := RX5) hZ (by decide +kernel) rfl (Nat.le_of_ble_eq_true rfl) (fun K _ hK hF hini => w_X5_outOf_0 hK hF h)
def f_X5_isSpared (j0 : Nat) (x1 : Int32) (L : LH) : Rs Int32 :=
  fw_pI 8 L j0 14 x1 fun L1 =>
  fw_is 8 L1 j0 <|
  fw_cl (f_X5_runs j0 L1) fun _ L2 =>
  fw_gI 8 L2 j0 22 fun v3 =>
  if v3 = (nI 1) then (
    some ((nI 0), L2, 0, 0)
  ) else (
    some ((nI 1), L2, 0, 0)
  )
set_option maxHeartbeats 4000000 in
set_option maxRecDepth 100000 in
theorem w_X5_isSpared_0 {K : Kx} {r9 : Int32} {L9 : LH} (hK : Ok K cX5_isSpared 2 RX5 5 109) (hF : Fin K (some (.boolean)) (some (aI r9)) L9) {j0 : Nat} {x1 : Int32} {L : LH} {mc ms : Nat} (h : f_X5_isSpared j0 x1 L = some (r9, L9, mc, ms)) : AW K L mc ms 0 [(0, aR (some j0)), (1, aI x1)] [] := by
  unfold f_X5_isSpared at h
  refine aw_aload_n hK 0 dX5_isSpared_0 rfl rfl ?_
  refine aw_iload_n hK 1 dX5_isSpared_1 rfl rfl ?_
  refine aw_pI hK fw_c7 14 (by decide) rfl q1207 (fun _ h9 => h9) rfl rfl rfl dX5_isSpared_2 h (fun L1 h => ?_)
  refine aw_aload_n hK 0 dX5_isSpared_5 rfl rfl ?_
  obtain ⟨hj, h⟩ := fw_is_h h
  refine aw_callV_v (n := 0) hK fw_c7 hj (fun _ _ _ _ q => ct_X5_runs hK.zk q) (lw_V q1458 q1460 qs58 q102 q1461) (by decide +kernel) (by decide) rfl rfl (Nat.le_of_ble_eq_true rfl) dX5_isSpared_6 h (fun _ L2 _ _ h => ?_)
  refine aw_aload_n hK 0 dX5_isSpared_9 rfl rfl ?_
  refine aw_gI hK fw_c7 22 (by decide) rfl q1215 (fun _ h9 => h9) dX5_isSpared_10 h (fun v3 h => ?_)
  refine aw_iconst (v := (nI 1)) hK dX5_isSpared_13 rfl ?_
  refine aw_icmp_eq (tgt := 21) hK dX5_isSpared_14 (by decide) h (fun h => ?_) (fun h => ?_)
  · refine aw_iconst (v := (nI 0)) hK dX5_isSpared_21 rfl ?_
    exact aw_zret hK (by decide) dX5_isSpared_22 h hF
  · refine aw_iconst (v := (nI 1)) hK dX5_isSpared_17 rfl ?_
    refine aw_goto (tgt := 22) hK dX5_isSpared_18 (by decide) ?_
    exact aw_zret hK (by decide) dX5_isSpared_22 h hF
theorem ct_X5_isSpared {Z : fw_ZT} (hZ : fw_Zok Z) {j0 : Nat} {x1 : Int32} {L : LH} {r9 : Int32} {L9 : LH} {mc ms : Nat} (h : f_X5_isSpared j0 x1 L = some (r9, L9, mc, ms)) : Ct Z yX5_isSpared (ws_ yX5_isSpared cX5_isSpared 2 (some (.boolean))) 5 109 [aR (some j0), aI x1] L (some (aI r9)) L9 mc ms :=
  ct_of (own := RX5) hZ (by decide +kernel) rfl (Nat.le_of_ble_eq_true rfl) (fun K _ hK hF hini => w_X5_isSpared_0 hK hF h)
def f_X5_isSeen_45 (rec8 : Nat → Int32 → Int32 → LH → Rs Int32) (j0 : Nat) (x2 : Int32) (sx0 : Int32) (L : LH) : Rs Int32 :=
  rec8 j0 sx0 (x2 + (nI 1)) L
def f_X5_isSeen_8 : Nat → Nat → Int32 → Int32 → LH → Rs Int32
  | 0, _, _, _, _ => none
  | n + 1, j0, x1, x2, L =>
    fw_gI 8 L j0 37 fun v1 =>
    if v1 ≤ x2 then (
      fw_bo x1 <|
      some (x1, L, 0, 0)
    ) else (
      if x1 = 0 then (
        fw_bo x1 <|
        some (x1, L, 0, 0)
      ) else (
        fw_gR 8 L j0 29 fun r2 =>
        fw_gR 8 L j0 38 fun r3 =>
        fw_nn r3 fun j4 =>
        fw_rd 100 L j4 x2 fun v5 =>
        fw_nn r2 fun j6 =>
        fw_rd 100 L j6 v5 fun v7 =>
        fw_gR 8 L j0 39 fun r8 =>
        fw_nn r8 fun j9 =>
        fw_rd 100 L j9 x2 fun v10 =>
        if v7 = v10 then (
          f_X5_isSeen_45 (f_X5_isSeen_8 n) j0 x2 (nI 1) L
        ) else (
          f_X5_isSeen_45 (f_X5_isSeen_8 n) j0 x2 (nI 0) L
        )
      )
    )
def f_X5_isSeen (j0 : Nat) (L : LH) : Rs Int32 :=
  fw_is 8 L j0 <|
  fw_cl (f_X5_runs j0 L) fun _ L1 =>
  f_X5_isSeen_8 fw_fuel j0 (nI 1) (nI 0) L1
set_option maxHeartbeats 4000000 in
set_option maxRecDepth 100000 in
theorem w_X5_isSeen_45 {K : Kx} {r9 : Int32} {L9 : LH} (hK : Ok K cX5_isSeen 3 RX5 5 109) (hF : Fin K (some (.boolean)) (some (aI r9)) L9) {rec8 : Nat → Int32 → Int32 → LH → Rs Int32} (hrec8 : ∀ {j0 : Nat} {x1 : Int32} {x2 : Int32} {L : LH} {mc ms : Nat}, rec8 j0 x1 x2 L = some (r9, L9, mc, ms) → AW K L mc ms 8 [(0, aR (some j0)), (1, aI x1), (2, aI x2)] []) {j0 : Nat} {x2 : Int32} {sx0 : Int32} {L : LH} {mc ms : Nat} (h : f_X5_isSeen_45 rec8 j0 x2 sx0 L = some (r9, L9, mc, ms)) : AW K L mc ms 45 [(0, aR (some j0)), (2, aI x2)] [aI sx0] := by
  unfold f_X5_isSeen_45 at h
  refine aw_istore_n (lv' := [(1, aI sx0), (0, aR (some j0)), (2, aI x2)]) hK dX5_isSeen_45 rfl (by decide) rfl ?_
  refine aw_iinc (v := (x2 + (nI 1))) (lv' := [(2, aI (x2 + (nI 1))), (1, aI sx0), (0, aR (some j0))]) hK 2 dX5_isSeen_46 rfl rfl (by decide) rfl ?_
  refine aw_goto (tgt := 8) hK dX5_isSeen_49 (by decide) ?_
  exact aw_sub [2, 1, 0] rfl (hrec8 h)
set_option maxHeartbeats 4000000 in
set_option maxRecDepth 100000 in
theorem w_X5_isSeen_8 {K : Kx} {r9 : Int32} {L9 : LH} (hK : Ok K cX5_isSeen 3 RX5 5 109) (hF : Fin K (some (.boolean)) (some (aI r9)) L9) : ∀ {n : Nat} {j0 : Nat} {x1 : Int32} {x2 : Int32} {L : LH} {mc ms : Nat}, f_X5_isSeen_8 n j0 x1 x2 L = some (r9, L9, mc, ms) → AW K L mc ms 8 [(0, aR (some j0)), (1, aI x1), (2, aI x2)] [] := by
  intro n
  induction n with
  | zero =>
    intro j0 x1 x2 L mc ms h
    have h : (none : Rs Int32) = some (r9, L9, mc, ms) := h
    cases h
  | succ n ih =>
    intro j0 x1 x2 L mc ms h
    unfold f_X5_isSeen_8 at h
    refine aw_iload_n hK 2 dX5_isSeen_8 rfl rfl ?_
    refine aw_aload_n hK 0 dX5_isSeen_9 rfl rfl ?_
    refine aw_gI hK fw_c7 37 (by decide) rfl q1230 (fun _ h9 => h9) dX5_isSeen_10 h (fun v1 h => ?_)
    refine aw_icmp_ge (tgt := 52) hK dX5_isSeen_13 (by decide) h (fun h => ?_) (fun h => ?_)
    · refine aw_iload_n hK 1 dX5_isSeen_52 rfl rfl ?_
      obtain ⟨hbo, h⟩ := fw_bo_h h
      exact aw_zret hK hbo dX5_isSeen_53 h hF
    · refine aw_iload_n hK 1 dX5_isSeen_16 rfl rfl ?_
      refine aw_if_eq (tgt := 52) hK dX5_isSeen_17 (by decide) h (fun h => ?_) (fun h => ?_)
      · refine aw_iload_n hK 1 dX5_isSeen_52 rfl rfl ?_
        obtain ⟨hbo, h⟩ := fw_bo_h h
        exact aw_zret hK hbo dX5_isSeen_53 h hF
      · refine aw_aload_n hK 0 dX5_isSeen_20 rfl rfl ?_
        refine aw_gR hK fw_c7 29 (by decide) rfl q1222 (fun _ h9 => h9) dX5_isSeen_21 h (fun r2 h => ?_)
        refine aw_aload_n hK 0 dX5_isSeen_24 rfl rfl ?_
        refine aw_gR hK fw_c7 38 (by decide) rfl q1231 (fun _ h9 => h9) dX5_isSeen_25 h (fun r3 h => ?_)
        refine aw_iload_n hK 2 dX5_isSeen_28 rfl rfl ?_
        obtain _ | j4 := r3
        · exact (fw_nn_no h).elim
        replace h := fw_nn_so h
        refine aw_iald hK dX5_isSeen_29 h (fun v5 h => ?_)
        obtain _ | j6 := r2
        · exact (fw_nn_no h).elim
        replace h := fw_nn_so h
        refine aw_iald hK dX5_isSeen_30 h (fun v7 h => ?_)
        refine aw_aload_n hK 0 dX5_isSeen_31 rfl rfl ?_
        refine aw_gR hK fw_c7 39 (by decide) rfl q1232 (fun _ h9 => h9) dX5_isSeen_32 h (fun r8 h => ?_)
        refine aw_iload_n hK 2 dX5_isSeen_35 rfl rfl ?_
        obtain _ | j9 := r8
        · exact (fw_nn_no h).elim
        replace h := fw_nn_so h
        refine aw_iald hK dX5_isSeen_36 h (fun v10 h => ?_)
        refine aw_icmp_ne (tgt := 44) hK dX5_isSeen_37 (by decide) h (fun h => ?_) (fun h => ?_)
        · refine aw_iconst (v := (nI 0)) hK dX5_isSeen_44 rfl ?_
          exact aw_sub [0, 2] rfl (w_X5_isSeen_45 hK hF (fun h => ih h) h)
        · refine aw_iconst (v := (nI 1)) hK dX5_isSeen_40 rfl ?_
          refine aw_goto (tgt := 45) hK dX5_isSeen_41 (by decide) ?_
          exact aw_sub [0, 2] rfl (w_X5_isSeen_45 hK hF (fun h => ih h) h)
set_option maxHeartbeats 4000000 in
set_option maxRecDepth 100000 in
theorem w_X5_isSeen_0 {K : Kx} {r9 : Int32} {L9 : LH} (hK : Ok K cX5_isSeen 3 RX5 5 109) (hF : Fin K (some (.boolean)) (some (aI r9)) L9) {j0 : Nat} {L : LH} {mc ms : Nat} (h : f_X5_isSeen j0 L = some (r9, L9, mc, ms)) : AW K L mc ms 0 [(0, aR (some j0))] [] := by
  unfold f_X5_isSeen at h
  refine aw_aload_n hK 0 dX5_isSeen_0 rfl rfl ?_
  obtain ⟨hj, h⟩ := fw_is_h h
  refine aw_callV_v (n := 0) hK fw_c7 hj (fun _ _ _ _ q => ct_X5_runs hK.zk q) (lw_V q1458 q1460 qs58 q102 q1461) (by decide +kernel) (by decide) rfl rfl (Nat.le_of_ble_eq_true rfl) dX5_isSeen_1 h (fun _ L1 _ _ h => ?_)
  refine aw_iconst (v := (nI 1)) hK dX5_isSeen_4 rfl ?_
  refine aw_istore_n (lv' := [(1, aI (nI 1)), (0, aR (some j0))]) hK dX5_isSeen_5 rfl (by decide) rfl ?_
  refine aw_iconst (v := (nI 0)) hK dX5_isSeen_6 rfl ?_
  refine aw_istore_n (lv' := [(2, aI (nI 0)), (1, aI (nI 1)), (0, aR (some j0))]) hK dX5_isSeen_7 rfl (by decide) rfl ?_
  exact aw_sub [2, 1, 0] rfl (w_X5_isSeen_8 hK hF h)
theorem ct_X5_isSeen {Z : fw_ZT} (hZ : fw_Zok Z) {j0 : Nat} {L : LH} {r9 : Int32} {L9 : LH} {mc ms : Nat} (h : f_X5_isSeen j0 L = some (r9, L9, mc, ms)) : Ct Z yX5_isSeen (ws_ yX5_isSeen cX5_isSeen 3 (some (.boolean))) 5 109 [aR (some j0)] L (some (aI r9)) L9 mc ms :=
  ct_of (own := RX5) hZ (by decide +kernel) rfl (Nat.le_of_ble_eq_true rfl) (fun K _ hK hF hini => w_X5_isSeen_0 hK hF h)
def f_X5_weightsBy_52 (rec16 : Nat → Int32 → Int32 → Int32 → Int32 → LH → Rs Int32) : Nat → Nat → Int32 → Int32 → Int32 → Int32 → Int32 → LH → Rs Int32
  | 0, _, _, _, _, _, _, _ => none
  | n + 1, j0, x1, x2, x3, x4, x5, L =>
    if (nI 24) ≤ x5 then (
      rec16 j0 x1 x2 x3 (x4 + (nI 1)) L
    ) else (
      fw_gR 8 L j0 40 fun r1 =>
      fw_gR 8 L j0 29 fun r2 =>
      fw_nn r2 fun j3 =>
      fw_rd 100 L j3 x5 fun v4 =>
      fw_nn r1 fun j5 =>
      fw_wr 100 L j5 (((nI 24) * x4) + x5) v4 fun L6 =>
      f_X5_weightsBy_52 rec16 n j0 x1 x2 x3 x4 (x5 + (nI 1)) L6
    )
def f_X5_weightsBy_47 (rec16 : Nat → Int32 → Int32 → Int32 → Int32 → LH → Rs Int32) (j0 : Nat) (x1 : Int32) (x2 : Int32) (x4 : Int32) (sx0 : Int32) (sx1 : Int32) (L : LH) : Rs Int32 :=
  f_X5_weightsBy_52 rec16 fw_fuel j0 x1 x2 (sx1 ||| sx0) x4 (nI 0) L
def f_X5_weightsBy_16 : Nat → Nat → Int32 → Int32 → Int32 → Int32 → LH → Rs Int32
  | 0, _, _, _, _, _, _ => none
  | n + 1, j0, x1, x2, x3, x4, L =>
    if (nI 10) ≤ x4 then (
      fw_gR 8 L j0 4 fun r1 =>
      fw_nn r1 fun j2 =>
      fw_wr 100 L j2 x1 x2 fun L3 =>
      some (x3, L3, 0, 0)
    ) else (
      fw_gR 8 L j0 4 fun r4 =>
      fw_nn r4 fun j5 =>
      fw_wr 100 L j5 x1 x4 fun L6 =>
      fw_is 8 L6 j0 <|
      fw_cl (f_X5_isSeen j0 L6) fun v8 L7 =>
      if v8 = 0 then (
        f_X5_weightsBy_47 (f_X5_weightsBy_16 n) j0 x1 x2 x4 (nI 0) x3 L7
      ) else (
        f_X5_weightsBy_47 (f_X5_weightsBy_16 n) j0 x1 x2 x4 ((nI 1) <<< (x4 &&& 31)) x3 L7
      )
    )
def f_X5_weightsBy (j0 : Nat) (x1 : Int32) (L : LH) : Rs Int32 :=
  fw_is 8 L j0 <|
  fw_cl (f_X5_asTold j0 L) fun _ L1 =>
  fw_gR 8 L1 j0 4 fun r2 =>
  fw_nn r2 fun j3 =>
  fw_rd 100 L1 j3 x1 fun v4 =>
  f_X5_weightsBy_16 fw_fuel j0 x1 v4 (nI 0) (nI 1) L1
set_option maxHeartbeats 4000000 in
set_option maxRecDepth 100000 in
theorem w_X5_weightsBy_52 {K : Kx} {r9 : Int32} {L9 : LH} (hK : Ok K cX5_weightsBy 6 RX5 6 140) (hF : Fin K (some (.int)) (some (aI r9)) L9) {rec16 : Nat → Int32 → Int32 → Int32 → Int32 → LH → Rs Int32} (hrec16 : ∀ {j0 : Nat} {x1 : Int32} {x2 : Int32} {x3 : Int32} {x4 : Int32} {L : LH} {mc ms : Nat}, rec16 j0 x1 x2 x3 x4 L = some (r9, L9, mc, ms) → AW K L mc ms 16 [(0, aR (some j0)), (1, aI x1), (2, aI x2), (3, aI x3), (4, aI x4)] []) : ∀ {n : Nat} {j0 : Nat} {x1 : Int32} {x2 : Int32} {x3 : Int32} {x4 : Int32} {x5 : Int32} {L : LH} {mc ms : Nat}, f_X5_weightsBy_52 rec16 n j0 x1 x2 x3 x4 x5 L = some (r9, L9, mc, ms) → AW K L mc ms 52 [(0, aR (some j0)), (1, aI x1), (2, aI x2), (3, aI x3), (4, aI x4), (5, aI x5)] [] := by
  intro n
  induction n with
  | zero =>
    intro j0 x1 x2 x3 x4 x5 L mc ms h
    have h : (none : Rs Int32) = some (r9, L9, mc, ms) := h
    cases h
  | succ n ih =>
    intro j0 x1 x2 x3 x4 x5 L mc ms h
    unfold f_X5_weightsBy_52 at h
    refine aw_iload hK 5 dX5_weightsBy_52 rfl ?_
    refine aw_bipush (v := (nI 24)) hK dX5_weightsBy_54 rfl ?_
    refine aw_icmp_ge (tgt := 85) hK dX5_weightsBy_56 (by decide) h (fun h => ?_) (fun h => ?_)
    · refine aw_iinc (v := (x4 + (nI 1))) (lv' := [(4, aI (x4 + (nI 1))), (0, aR (some j0)), (1, aI x1), (2, aI x2), (3, aI x3), (5, aI x5)]) hK 4 dX5_weightsBy_85 rfl rfl (by decide) rfl ?_
      refine aw_goto (tgt := 16) hK dX5_weightsBy_88 (by decide) ?_
      exact aw_sub [1, 2, 3, 4, 0] rfl (hrec16 h)
    · refine aw_aload_n hK 0 dX5_weightsBy_59 rfl rfl ?_
      refine aw_gR hK fw_c7 40 (by decide) rfl q1233 (fun _ h9 => h9) dX5_weightsBy_60 h (fun r1 h => ?_)
      refine aw_bipush (v := (nI 24)) hK dX5_weightsBy_63 rfl ?_
      refine aw_iload hK 4 dX5_weightsBy_65 rfl ?_
      refine aw_imul hK dX5_weightsBy_67 ?_
      refine aw_iload hK 5 dX5_weightsBy_68 rfl ?_
      refine aw_iadd hK dX5_weightsBy_70 ?_
      refine aw_aload_n hK 0 dX5_weightsBy_71 rfl rfl ?_
      refine aw_gR hK fw_c7 29 (by decide) rfl q1222 (fun _ h9 => h9) dX5_weightsBy_72 h (fun r2 h => ?_)
      refine aw_iload hK 5 dX5_weightsBy_75 rfl ?_
      obtain _ | j3 := r2
      · exact (fw_nn_no h).elim
      replace h := fw_nn_so h
      refine aw_iald hK dX5_weightsBy_77 h (fun v4 h => ?_)
      obtain _ | j5 := r1
      · exact (fw_nn_no h).elim
      replace h := fw_nn_so h
      refine aw_iast hK dX5_weightsBy_78 h (fun L6 h => ?_)
      refine aw_iinc (v := (x5 + (nI 1))) (lv' := [(5, aI (x5 + (nI 1))), (0, aR (some j0)), (1, aI x1), (2, aI x2), (3, aI x3), (4, aI x4)]) hK 5 dX5_weightsBy_79 rfl rfl (by decide) rfl ?_
      refine aw_goto (tgt := 52) hK dX5_weightsBy_82 (by decide) ?_
      exact aw_sub [1, 2, 3, 4, 5, 0] rfl (ih h)
set_option maxHeartbeats 4000000 in
set_option maxRecDepth 100000 in
theorem w_X5_weightsBy_47 {K : Kx} {r9 : Int32} {L9 : LH} (hK : Ok K cX5_weightsBy 6 RX5 6 140) (hF : Fin K (some (.int)) (some (aI r9)) L9) {rec16 : Nat → Int32 → Int32 → Int32 → Int32 → LH → Rs Int32} (hrec16 : ∀ {j0 : Nat} {x1 : Int32} {x2 : Int32} {x3 : Int32} {x4 : Int32} {L : LH} {mc ms : Nat}, rec16 j0 x1 x2 x3 x4 L = some (r9, L9, mc, ms) → AW K L mc ms 16 [(0, aR (some j0)), (1, aI x1), (2, aI x2), (3, aI x3), (4, aI x4)] []) {j0 : Nat} {x1 : Int32} {x2 : Int32} {x4 : Int32} {sx0 : Int32} {sx1 : Int32} {L : LH} {mc ms : Nat} (h : f_X5_weightsBy_47 rec16 j0 x1 x2 x4 sx0 sx1 L = some (r9, L9, mc, ms)) : AW K L mc ms 47 [(0, aR (some j0)), (1, aI x1), (2, aI x2), (4, aI x4)] [aI sx0, aI sx1] := by
  unfold f_X5_weightsBy_47 at h
  refine aw_ior hK dX5_weightsBy_47 ?_
  refine aw_istore_n (lv' := [(3, aI (sx1 ||| sx0)), (0, aR (some j0)), (1, aI x1), (2, aI x2), (4, aI x4)]) hK dX5_weightsBy_48 rfl (by decide) rfl ?_
  refine aw_iconst (v := (nI 0)) hK dX5_weightsBy_49 rfl ?_
  refine aw_istore (lv' := [(5, aI (nI 0)), (3, aI (sx1 ||| sx0)), (0, aR (some j0)), (1, aI x1), (2, aI x2), (4, aI x4)]) hK dX5_weightsBy_50 (by decide) rfl ?_
  exact aw_sub [2, 3, 4, 1, 5, 0] rfl (w_X5_weightsBy_52 hK hF (fun h => hrec16 h) h)
set_option maxHeartbeats 4000000 in
set_option maxRecDepth 100000 in
theorem w_X5_weightsBy_16 {K : Kx} {r9 : Int32} {L9 : LH} (hK : Ok K cX5_weightsBy 6 RX5 6 140) (hF : Fin K (some (.int)) (some (aI r9)) L9) : ∀ {n : Nat} {j0 : Nat} {x1 : Int32} {x2 : Int32} {x3 : Int32} {x4 : Int32} {L : LH} {mc ms : Nat}, f_X5_weightsBy_16 n j0 x1 x2 x3 x4 L = some (r9, L9, mc, ms) → AW K L mc ms 16 [(0, aR (some j0)), (1, aI x1), (2, aI x2), (3, aI x3), (4, aI x4)] [] := by
  intro n
  induction n with
  | zero =>
    intro j0 x1 x2 x3 x4 L mc ms h
    have h : (none : Rs Int32) = some (r9, L9, mc, ms) := h
    cases h
  | succ n ih =>
    intro j0 x1 x2 x3 x4 L mc ms h
    unfold f_X5_weightsBy_16 at h
    refine aw_iload hK 4 dX5_weightsBy_16 rfl ?_
    refine aw_bipush (v := (nI 10)) hK dX5_weightsBy_18 rfl ?_
    refine aw_icmp_ge (tgt := 91) hK dX5_weightsBy_20 (by decide) h (fun h => ?_) (fun h => ?_)
    · refine aw_aload_n hK 0 dX5_weightsBy_91 rfl rfl ?_
      refine aw_gR hK fw_c7 4 (by decide) rfl q1197 (fun _ h9 => h9) dX5_weightsBy_92 h (fun r1 h => ?_)
      refine aw_iload_n hK 1 dX5_weightsBy_95 rfl rfl ?_
      refine aw_iload_n hK 2 dX5_weightsBy_96 rfl rfl ?_
      obtain _ | j2 := r1
      · exact (fw_nn_no h).elim
      replace h := fw_nn_so h
      refine aw_iast hK dX5_weightsBy_97 h (fun L3 h => ?_)
      refine aw_iload_n hK 3 dX5_weightsBy_98 rfl rfl ?_
      exact aw_iret hK dX5_weightsBy_99 h hF
    · refine aw_aload_n hK 0 dX5_weightsBy_23 rfl rfl ?_
      refine aw_gR hK fw_c7 4 (by decide) rfl q1197 (fun _ h9 => h9) dX5_weightsBy_24 h (fun r4 h => ?_)
      refine aw_iload_n hK 1 dX5_weightsBy_27 rfl rfl ?_
      refine aw_iload hK 4 dX5_weightsBy_28 rfl ?_
      obtain _ | j5 := r4
      · exact (fw_nn_no h).elim
      replace h := fw_nn_so h
      refine aw_iast hK dX5_weightsBy_30 h (fun L6 h => ?_)
      refine aw_iload_n hK 3 dX5_weightsBy_31 rfl rfl ?_
      refine aw_aload_n hK 0 dX5_weightsBy_32 rfl rfl ?_
      obtain ⟨hj, h⟩ := fw_is_h h
      refine aw_callV_i (n := 0) hK fw_c7 hj (fun _ _ _ _ q => ct_X5_isSeen hK.zk q) (lw_V q1609 q1611 qs81 q102 q1612) (by decide +kernel) (by decide) rfl rfl (Nat.le_of_ble_eq_true rfl) dX5_weightsBy_33 h (fun v8 L7 _ _ h => ?_)
      refine aw_if_eq (tgt := 46) hK dX5_weightsBy_36 (by decide) h (fun h => ?_) (fun h => ?_)
      · refine aw_iconst (v := (nI 0)) hK dX5_weightsBy_46 rfl ?_
        exact aw_sub [0, 1, 2, 4] rfl (w_X5_weightsBy_47 hK hF (fun h => ih h) h)
      · refine aw_iconst (v := (nI 1)) hK dX5_weightsBy_39 rfl ?_
        refine aw_iload hK 4 dX5_weightsBy_40 rfl ?_
        refine aw_ishl hK dX5_weightsBy_42 ?_
        refine aw_goto (tgt := 47) hK dX5_weightsBy_43 (by decide) ?_
        exact aw_sub [0, 1, 2, 4] rfl (w_X5_weightsBy_47 hK hF (fun h => ih h) h)
set_option maxHeartbeats 4000000 in
set_option maxRecDepth 100000 in
theorem w_X5_weightsBy_0 {K : Kx} {r9 : Int32} {L9 : LH} (hK : Ok K cX5_weightsBy 6 RX5 6 140) (hF : Fin K (some (.int)) (some (aI r9)) L9) {j0 : Nat} {x1 : Int32} {L : LH} {mc ms : Nat} (h : f_X5_weightsBy j0 x1 L = some (r9, L9, mc, ms)) : AW K L mc ms 0 [(0, aR (some j0)), (1, aI x1)] [] := by
  unfold f_X5_weightsBy at h
  refine aw_aload_n hK 0 dX5_weightsBy_0 rfl rfl ?_
  obtain ⟨hj, h⟩ := fw_is_h h
  refine aw_callV_v (n := 0) hK fw_c7 hj (fun _ _ _ _ q => ct_X5_asTold hK.zk q) (lw_V q1454 q1456 qs57 q102 q1457) (by decide +kernel) (by decide) rfl rfl (Nat.le_of_ble_eq_true rfl) dX5_weightsBy_1 h (fun _ L1 _ _ h => ?_)
  refine aw_aload_n hK 0 dX5_weightsBy_4 rfl rfl ?_
  refine aw_gR hK fw_c7 4 (by decide) rfl q1197 (fun _ h9 => h9) dX5_weightsBy_5 h (fun r2 h => ?_)
  refine aw_iload_n hK 1 dX5_weightsBy_8 rfl rfl ?_
  obtain _ | j3 := r2
  · exact (fw_nn_no h).elim
  replace h := fw_nn_so h
  refine aw_iald hK dX5_weightsBy_9 h (fun v4 h => ?_)
  refine aw_istore_n (lv' := [(2, aI v4), (0, aR (some j0)), (1, aI x1)]) hK dX5_weightsBy_10 rfl (by decide) rfl ?_
  refine aw_iconst (v := (nI 0)) hK dX5_weightsBy_11 rfl ?_
  refine aw_istore_n (lv' := [(3, aI (nI 0)), (2, aI v4), (0, aR (some j0)), (1, aI x1)]) hK dX5_weightsBy_12 rfl (by decide) rfl ?_
  refine aw_iconst (v := (nI 1)) hK dX5_weightsBy_13 rfl ?_
  refine aw_istore (lv' := [(4, aI (nI 1)), (3, aI (nI 0)), (2, aI v4), (0, aR (some j0)), (1, aI x1)]) hK dX5_weightsBy_14 (by decide) rfl ?_
  exact aw_sub [3, 4, 2, 1, 0] rfl (w_X5_weightsBy_16 hK hF h)
theorem ct_X5_weightsBy {Z : fw_ZT} (hZ : fw_Zok Z) {j0 : Nat} {x1 : Int32} {L : LH} {r9 : Int32} {L9 : LH} {mc ms : Nat} (h : f_X5_weightsBy j0 x1 L = some (r9, L9, mc, ms)) : Ct Z yX5_weightsBy (ws_ yX5_weightsBy cX5_weightsBy 6 (some (.int))) 6 140 [aR (some j0), aI x1] L (some (aI r9)) L9 mc ms :=
  ct_of (own := RX5) hZ (by decide +kernel) rfl (Nat.le_of_ble_eq_true rfl) (fun K _ hK hF hini => w_X5_weightsBy_0 hK hF h)
def f_X5_sortsBy_46 (rec16 : Nat → Int32 → Int32 → Int32 → Int32 → LH → Rs Int32) (j0 : Nat) (x1 : Int32) (x2 : Int32) (x4 : Int32) (sx0 : Int32) (sx1 : Int32) (L : LH) : Rs Int32 :=
  rec16 j0 x1 x2 (sx1 ||| sx0) (x4 + (nI 1)) L
def f_X5_sortsBy_16 : Nat → Nat → Int32 → Int32 → Int32 → Int32 → LH → Rs Int32
  | 0, _, _, _, _, _, _ => none
  | n + 1, j0, x1, x2, x3, x4, L =>
    if (nI 3) ≤ x4 then (
      fw_gR 8 L j0 3 fun r1 =>
      fw_nn r1 fun j2 =>
      fw_wr 100 L j2 x1 x2 fun L3 =>
      some (x3, L3, 0, 0)
    ) else (
      fw_gR 8 L j0 3 fun r4 =>
      fw_nn r4 fun j5 =>
      fw_wr 100 L j5 x1 x4 fun L6 =>
      fw_is 8 L6 j0 <|
      fw_cl (f_X5_isSeen j0 L6) fun v8 L7 =>
      if v8 = 0 then (
        f_X5_sortsBy_46 (f_X5_sortsBy_16 n) j0 x1 x2 x4 (nI 0) x3 L7
      ) else (
        f_X5_sortsBy_46 (f_X5_sortsBy_16 n) j0 x1 x2 x4 ((nI 1) <<< (x4 &&& 31)) x3 L7
      )
    )
def f_X5_sortsBy (j0 : Nat) (x1 : Int32) (L : LH) : Rs Int32 :=
  fw_is 8 L j0 <|
  fw_cl (f_X5_asTold j0 L) fun _ L1 =>
  fw_gR 8 L1 j0 3 fun r2 =>
  fw_nn r2 fun j3 =>
  fw_rd 100 L1 j3 x1 fun v4 =>
  f_X5_sortsBy_16 fw_fuel j0 x1 v4 (nI 0) (nI 0) L1
set_option maxHeartbeats 4000000 in
set_option maxRecDepth 100000 in
theorem w_X5_sortsBy_46 {K : Kx} {r9 : Int32} {L9 : LH} (hK : Ok K cX5_sortsBy 5 RX5 6 140) (hF : Fin K (some (.int)) (some (aI r9)) L9) {rec16 : Nat → Int32 → Int32 → Int32 → Int32 → LH → Rs Int32} (hrec16 : ∀ {j0 : Nat} {x1 : Int32} {x2 : Int32} {x3 : Int32} {x4 : Int32} {L : LH} {mc ms : Nat}, rec16 j0 x1 x2 x3 x4 L = some (r9, L9, mc, ms) → AW K L mc ms 16 [(0, aR (some j0)), (1, aI x1), (2, aI x2), (3, aI x3), (4, aI x4)] []) {j0 : Nat} {x1 : Int32} {x2 : Int32} {x4 : Int32} {sx0 : Int32} {sx1 : Int32} {L : LH} {mc ms : Nat} (h : f_X5_sortsBy_46 rec16 j0 x1 x2 x4 sx0 sx1 L = some (r9, L9, mc, ms)) : AW K L mc ms 46 [(0, aR (some j0)), (1, aI x1), (2, aI x2), (4, aI x4)] [aI sx0, aI sx1] := by
  unfold f_X5_sortsBy_46 at h
  refine aw_ior hK dX5_sortsBy_46 ?_
  refine aw_istore_n (lv' := [(3, aI (sx1 ||| sx0)), (0, aR (some j0)), (1, aI x1), (2, aI x2), (4, aI x4)]) hK dX5_sortsBy_47 rfl (by decide) rfl ?_
  refine aw_iinc (v := (x4 + (nI 1))) (lv' := [(4, aI (x4 + (nI 1))), (3, aI (sx1 ||| sx0)), (0, aR (some j0)), (1, aI x1), (2, aI x2)]) hK 4 dX5_sortsBy_48 rfl rfl (by decide) rfl ?_
  refine aw_goto (tgt := 16) hK dX5_sortsBy_51 (by decide) ?_
  exact aw_sub [2, 3, 4, 1, 0] rfl (hrec16 h)
set_option maxHeartbeats 4000000 in
set_option maxRecDepth 100000 in
theorem w_X5_sortsBy_16 {K : Kx} {r9 : Int32} {L9 : LH} (hK : Ok K cX5_sortsBy 5 RX5 6 140) (hF : Fin K (some (.int)) (some (aI r9)) L9) : ∀ {n : Nat} {j0 : Nat} {x1 : Int32} {x2 : Int32} {x3 : Int32} {x4 : Int32} {L : LH} {mc ms : Nat}, f_X5_sortsBy_16 n j0 x1 x2 x3 x4 L = some (r9, L9, mc, ms) → AW K L mc ms 16 [(0, aR (some j0)), (1, aI x1), (2, aI x2), (3, aI x3), (4, aI x4)] [] := by
  intro n
  induction n with
  | zero =>
    intro j0 x1 x2 x3 x4 L mc ms h
    have h : (none : Rs Int32) = some (r9, L9, mc, ms) := h
    cases h
  | succ n ih =>
    intro j0 x1 x2 x3 x4 L mc ms h
    unfold f_X5_sortsBy_16 at h
    refine aw_iload hK 4 dX5_sortsBy_16 rfl ?_
    refine aw_iconst (v := (nI 3)) hK dX5_sortsBy_18 rfl ?_
    refine aw_icmp_ge (tgt := 54) hK dX5_sortsBy_19 (by decide) h (fun h => ?_) (fun h => ?_)
    · refine aw_aload_n hK 0 dX5_sortsBy_54 rfl rfl ?_
      refine aw_gR hK fw_c7 3 (by decide) rfl q1196 (fun _ h9 => h9) dX5_sortsBy_55 h (fun r1 h => ?_)
      refine aw_iload_n hK 1 dX5_sortsBy_58 rfl rfl ?_
      refine aw_iload_n hK 2 dX5_sortsBy_59 rfl rfl ?_
      obtain _ | j2 := r1
      · exact (fw_nn_no h).elim
      replace h := fw_nn_so h
      refine aw_iast hK dX5_sortsBy_60 h (fun L3 h => ?_)
      refine aw_iload_n hK 3 dX5_sortsBy_61 rfl rfl ?_
      exact aw_iret hK dX5_sortsBy_62 h hF
    · refine aw_aload_n hK 0 dX5_sortsBy_22 rfl rfl ?_
      refine aw_gR hK fw_c7 3 (by decide) rfl q1196 (fun _ h9 => h9) dX5_sortsBy_23 h (fun r4 h => ?_)
      refine aw_iload_n hK 1 dX5_sortsBy_26 rfl rfl ?_
      refine aw_iload hK 4 dX5_sortsBy_27 rfl ?_
      obtain _ | j5 := r4
      · exact (fw_nn_no h).elim
      replace h := fw_nn_so h
      refine aw_iast hK dX5_sortsBy_29 h (fun L6 h => ?_)
      refine aw_iload_n hK 3 dX5_sortsBy_30 rfl rfl ?_
      refine aw_aload_n hK 0 dX5_sortsBy_31 rfl rfl ?_
      obtain ⟨hj, h⟩ := fw_is_h h
      refine aw_callV_i (n := 0) hK fw_c7 hj (fun _ _ _ _ q => ct_X5_isSeen hK.zk q) (lw_V q1609 q1611 qs81 q102 q1612) (by decide +kernel) (by decide) rfl rfl (Nat.le_of_ble_eq_true rfl) dX5_sortsBy_32 h (fun v8 L7 _ _ h => ?_)
      refine aw_if_eq (tgt := 45) hK dX5_sortsBy_35 (by decide) h (fun h => ?_) (fun h => ?_)
      · refine aw_iconst (v := (nI 0)) hK dX5_sortsBy_45 rfl ?_
        exact aw_sub [0, 1, 2, 4] rfl (w_X5_sortsBy_46 hK hF (fun h => ih h) h)
      · refine aw_iconst (v := (nI 1)) hK dX5_sortsBy_38 rfl ?_
        refine aw_iload hK 4 dX5_sortsBy_39 rfl ?_
        refine aw_ishl hK dX5_sortsBy_41 ?_
        refine aw_goto (tgt := 46) hK dX5_sortsBy_42 (by decide) ?_
        exact aw_sub [0, 1, 2, 4] rfl (w_X5_sortsBy_46 hK hF (fun h => ih h) h)
set_option maxHeartbeats 4000000 in
set_option maxRecDepth 100000 in
theorem w_X5_sortsBy_0 {K : Kx} {r9 : Int32} {L9 : LH} (hK : Ok K cX5_sortsBy 5 RX5 6 140) (hF : Fin K (some (.int)) (some (aI r9)) L9) {j0 : Nat} {x1 : Int32} {L : LH} {mc ms : Nat} (h : f_X5_sortsBy j0 x1 L = some (r9, L9, mc, ms)) : AW K L mc ms 0 [(0, aR (some j0)), (1, aI x1)] [] := by
  unfold f_X5_sortsBy at h
  refine aw_aload_n hK 0 dX5_sortsBy_0 rfl rfl ?_
  obtain ⟨hj, h⟩ := fw_is_h h
  refine aw_callV_v (n := 0) hK fw_c7 hj (fun _ _ _ _ q => ct_X5_asTold hK.zk q) (lw_V q1454 q1456 qs57 q102 q1457) (by decide +kernel) (by decide) rfl rfl (Nat.le_of_ble_eq_true rfl) dX5_sortsBy_1 h (fun _ L1 _ _ h => ?_)
  refine aw_aload_n hK 0 dX5_sortsBy_4 rfl rfl ?_
  refine aw_gR hK fw_c7 3 (by decide) rfl q1196 (fun _ h9 => h9) dX5_sortsBy_5 h (fun r2 h => ?_)
  refine aw_iload_n hK 1 dX5_sortsBy_8 rfl rfl ?_
  obtain _ | j3 := r2
  · exact (fw_nn_no h).elim
  replace h := fw_nn_so h
  refine aw_iald hK dX5_sortsBy_9 h (fun v4 h => ?_)
  refine aw_istore_n (lv' := [(2, aI v4), (0, aR (some j0)), (1, aI x1)]) hK dX5_sortsBy_10 rfl (by decide) rfl ?_
  refine aw_iconst (v := (nI 0)) hK dX5_sortsBy_11 rfl ?_
  refine aw_istore_n (lv' := [(3, aI (nI 0)), (2, aI v4), (0, aR (some j0)), (1, aI x1)]) hK dX5_sortsBy_12 rfl (by decide) rfl ?_
  refine aw_iconst (v := (nI 0)) hK dX5_sortsBy_13 rfl ?_
  refine aw_istore (lv' := [(4, aI (nI 0)), (3, aI (nI 0)), (2, aI v4), (0, aR (some j0)), (1, aI x1)]) hK dX5_sortsBy_14 (by decide) rfl ?_
  exact aw_sub [3, 4, 2, 1, 0] rfl (w_X5_sortsBy_16 hK hF h)
theorem ct_X5_sortsBy {Z : fw_ZT} (hZ : fw_Zok Z) {j0 : Nat} {x1 : Int32} {L : LH} {r9 : Int32} {L9 : LH} {mc ms : Nat} (h : f_X5_sortsBy j0 x1 L = some (r9, L9, mc, ms)) : Ct Z yX5_sortsBy (ws_ yX5_sortsBy cX5_sortsBy 5 (some (.int))) 6 140 [aR (some j0), aI x1] L (some (aI r9)) L9 mc ms :=
  ct_of (own := RX5) hZ (by decide +kernel) rfl (Nat.le_of_ble_eq_true rfl) (fun K _ hK hF hini => w_X5_sortsBy_0 hK hF h)
def f_X5_askOf_101 (rec14 : Nat → Int32 → Int32 → Int32 → Int32 → LH → Rs Int32) (rec27 : Nat → Int32 → Int32 → Int32 → Int32 → Int32 → Int32 → LH → Rs Int32) (rec40 : Nat → Int32 → Int32 → Int32 → Int32 → Int32 → Int32 → Int32 → Int32 → LH → Rs Int32) (j0 : Nat) (x2 : Int32) (x3 : Int32) (x4 : Int32) (x5 : Int32) (x6 : Int32) (x7 : Int32) (x9 : Int32) (sx0 : Int32) (sx1 : Int32) (L : LH) : Rs Int32 :=
  rec40 j0 x2 x3 x4 x5 x6 x7 (sx1 + sx0) (x9 + (nI 1)) L
def f_X5_askOf_100 (rec14 : Nat → Int32 → Int32 → Int32 → Int32 → LH → Rs Int32) (rec27 : Nat → Int32 → Int32 → Int32 → Int32 → Int32 → Int32 → LH → Rs Int32) (rec40 : Nat → Int32 → Int32 → Int32 → Int32 → Int32 → Int32 → Int32 → Int32 → LH → Rs Int32) (j0 : Nat) (x2 : Int32) (x3 : Int32) (x4 : Int32) (x5 : Int32) (x6 : Int32) (x7 : Int32) (x9 : Int32) (sx0 : Int32) (L : LH) : Rs Int32 :=
  f_X5_askOf_101 rec14 rec27 rec40 j0 x2 x3 x4 x5 x6 x7 x9 (nI 0) sx0 L
def f_X5_askOf_124 (rec14 : Nat → Int32 → Int32 → Int32 → Int32 → LH → Rs Int32) (rec27 : Nat → Int32 → Int32 → Int32 → Int32 → Int32 → Int32 → LH → Rs Int32) (j0 : Nat) (x2 : Int32) (x3 : Int32) (x4 : Int32) (x5 : Int32) (x7 : Int32) (sx0 : Int32) (L : LH) : Rs Int32 :=
  rec27 j0 x2 x3 x4 x5 sx0 (x7 + (nI 1)) L
def f_X5_askOf_40 (rec14 : Nat → Int32 → Int32 → Int32 → Int32 → LH → Rs Int32) (rec27 : Nat → Int32 → Int32 → Int32 → Int32 → Int32 → Int32 → LH → Rs Int32) : Nat → Nat → Int32 → Int32 → Int32 → Int32 → Int32 → Int32 → Int32 → Int32 → LH → Rs Int32
  | 0, _, _, _, _, _, _, _, _, _, _ => none
  | n + 1, j0, x2, x3, x4, x5, x6, x7, x8, x9, L =>
    if (nI 10) ≤ x9 then (
      if x8 ≤ x6 then (
        f_X5_askOf_124 rec14 rec27 j0 x2 x3 x4 x5 x7 x6 L
      ) else (
        f_X5_askOf_124 rec14 rec27 j0 x2 x3 x4 x5 x7 x8 L
      )
    ) else (
      fw_cl (f_X5_isIn x2 x7 L) fun v2 L1 =>
      if v2 = 0 then (
        f_X5_askOf_100 rec14 rec27 (f_X5_askOf_40 rec14 rec27 n) j0 x2 x3 x4 x5 x6 x7 x9 x8 L1
      ) else (
        fw_cl (f_X5_isIn x2 x9 L1) fun v4 L3 =>
        if v4 = 0 then (
          f_X5_askOf_100 rec14 rec27 (f_X5_askOf_40 rec14 rec27 n) j0 x2 x3 x4 x5 x6 x7 x9 x8 L3
        ) else (
          fw_gR 8 L3 j0 40 fun r5 =>
          fw_nn r5 fun j6 =>
          fw_rd 100 L3 j6 (((nI 24) * x7) + x5) fun v7 =>
          fw_gR 8 L3 j0 40 fun r8 =>
          fw_nn r8 fun j9 =>
          fw_rd 100 L3 j9 (((nI 24) * x9) + x5) fun v10 =>
          if v7 = v10 then (
            f_X5_askOf_101 rec14 rec27 (f_X5_askOf_40 rec14 rec27 n) j0 x2 x3 x4 x5 x6 x7 x9 (nI 1) x8 L3
          ) else (
            f_X5_askOf_100 rec14 rec27 (f_X5_askOf_40 rec14 rec27 n) j0 x2 x3 x4 x5 x6 x7 x9 x8 L3
          )
        )
      )
    )
def f_X5_askOf_175 (rec14 : Nat → Int32 → Int32 → Int32 → Int32 → LH → Rs Int32) (j0 : Nat) (x2 : Int32) (x3 : Int32) (x5 : Int32) (sx0 : Int32) (L : LH) : Rs Int32 :=
  rec14 j0 x2 x3 sx0 (x5 + (nI 1)) L
def f_X5_askOf_162 (rec14 : Nat → Int32 → Int32 → Int32 → Int32 → LH → Rs Int32) (j0 : Nat) (x2 : Int32) (x4 : Int32) (x5 : Int32) (x6 : Int32) (x7 : Int32) (sx0 : Int32) (L : LH) : Rs Int32 :=
  if x7 = 0 then (
    f_X5_askOf_175 rec14 j0 x2 sx0 x5 x4 L
  ) else (
    f_X5_askOf_175 rec14 j0 x2 sx0 x5 x6 L
  )
def f_X5_askOf_149 (rec14 : Nat → Int32 → Int32 → Int32 → Int32 → LH → Rs Int32) (j0 : Nat) (x2 : Int32) (x3 : Int32) (x4 : Int32) (x5 : Int32) (x6 : Int32) (sx0 : Int32) (L : LH) : Rs Int32 :=
  if sx0 = 0 then (
    f_X5_askOf_162 rec14 j0 x2 x4 x5 x6 sx0 x3 L
  ) else (
    f_X5_askOf_162 rec14 j0 x2 x4 x5 x6 sx0 x5 L
  )
def f_X5_askOf_144 (rec14 : Nat → Int32 → Int32 → Int32 → Int32 → LH → Rs Int32) (j0 : Nat) (x2 : Int32) (x3 : Int32) (x4 : Int32) (x5 : Int32) (x6 : Int32) (L : LH) : Rs Int32 :=
  f_X5_askOf_149 rec14 j0 x2 x3 x4 x5 x6 (nI 1) L
def f_X5_askOf_27 (rec14 : Nat → Int32 → Int32 → Int32 → Int32 → LH → Rs Int32) : Nat → Nat → Int32 → Int32 → Int32 → Int32 → Int32 → Int32 → LH → Rs Int32
  | 0, _, _, _, _, _, _, _, _ => none
  | n + 1, j0, x2, x3, x4, x5, x6, x7, L =>
    if (nI 10) ≤ x7 then (
      if x3 = (-nI 1) then (
        f_X5_askOf_144 rec14 j0 x2 x3 x4 x5 x6 L
      ) else (
        if x4 ≤ x6 then (
          f_X5_askOf_149 rec14 j0 x2 x3 x4 x5 x6 (nI 0) L
        ) else (
          f_X5_askOf_144 rec14 j0 x2 x3 x4 x5 x6 L
        )
      )
    ) else (
      f_X5_askOf_40 rec14 (f_X5_askOf_27 rec14 n) fw_fuel j0 x2 x3 x4 x5 x6 x7 (nI 0) (nI 1) L
    )
def f_X5_askOf_14 : Nat → Nat → Int32 → Int32 → Int32 → Int32 → LH → Rs Int32
  | 0, _, _, _, _, _, _ => none
  | n + 1, j0, x2, x3, x4, x5, L =>
    if (nI 24) ≤ x5 then (
      some (x3, L, 0, 0)
    ) else (
      f_X5_askOf_27 (f_X5_askOf_14 n) fw_fuel j0 x2 x3 x4 x5 (nI 0) (nI 1) L
    )
def f_X5_askOf (j0 : Nat) (x1 : Int32) (L : LH) : Rs Int32 :=
  fw_is 8 L j0 <|
  fw_cl (f_X5_weightsBy j0 x1 L) fun v2 L1 =>
  f_X5_askOf_14 fw_fuel j0 v2 (-nI 1) (nI 0) (nI 0) L1
set_option maxHeartbeats 4000000 in
set_option maxRecDepth 100000 in
theorem w_X5_askOf_101 {K : Kx} {r9 : Int32} {L9 : LH} (hK : Ok K cX5_askOf 10 RX5 7 165) (hF : Fin K (some (.int)) (some (aI r9)) L9) {rec14 : Nat → Int32 → Int32 → Int32 → Int32 → LH → Rs Int32} (hrec14 : ∀ {j0 : Nat} {x2 : Int32} {x3 : Int32} {x4 : Int32} {x5 : Int32} {L : LH} {mc ms : Nat}, rec14 j0 x2 x3 x4 x5 L = some (r9, L9, mc, ms) → AW K L mc ms 14 [(0, aR (some j0)), (2, aI x2), (3, aI x3), (4, aI x4), (5, aI x5)] []) {rec27 : Nat → Int32 → Int32 → Int32 → Int32 → Int32 → Int32 → LH → Rs Int32} (hrec27 : ∀ {j0 : Nat} {x2 : Int32} {x3 : Int32} {x4 : Int32} {x5 : Int32} {x6 : Int32} {x7 : Int32} {L : LH} {mc ms : Nat}, rec27 j0 x2 x3 x4 x5 x6 x7 L = some (r9, L9, mc, ms) → AW K L mc ms 27 [(0, aR (some j0)), (2, aI x2), (3, aI x3), (4, aI x4), (5, aI x5), (6, aI x6), (7, aI x7)] []) {rec40 : Nat → Int32 → Int32 → Int32 → Int32 → Int32 → Int32 → Int32 → Int32 → LH → Rs Int32} (hrec40 : ∀ {j0 : Nat} {x2 : Int32} {x3 : Int32} {x4 : Int32} {x5 : Int32} {x6 : Int32} {x7 : Int32} {x8 : Int32} {x9 : Int32} {L : LH} {mc ms : Nat}, rec40 j0 x2 x3 x4 x5 x6 x7 x8 x9 L = some (r9, L9, mc, ms) → AW K L mc ms 40 [(0, aR (some j0)), (2, aI x2), (3, aI x3), (4, aI x4), (5, aI x5), (6, aI x6), (7, aI x7), (8, aI x8), (9, aI x9)] []) {j0 : Nat} {x2 : Int32} {x3 : Int32} {x4 : Int32} {x5 : Int32} {x6 : Int32} {x7 : Int32} {x9 : Int32} {sx0 : Int32} {sx1 : Int32} {L : LH} {mc ms : Nat} (h : f_X5_askOf_101 rec14 rec27 rec40 j0 x2 x3 x4 x5 x6 x7 x9 sx0 sx1 L = some (r9, L9, mc, ms)) : AW K L mc ms 101 [(0, aR (some j0)), (2, aI x2), (3, aI x3), (4, aI x4), (5, aI x5), (6, aI x6), (7, aI x7), (9, aI x9)] [aI sx0, aI sx1] := by
  unfold f_X5_askOf_101 at h
  refine aw_iadd hK dX5_askOf_101 ?_
  refine aw_istore (lv' := [(8, aI (sx1 + sx0)), (0, aR (some j0)), (2, aI x2), (3, aI x3), (4, aI x4), (5, aI x5), (6, aI x6), (7, aI x7), (9, aI x9)]) hK dX5_askOf_102 (by decide) rfl ?_
  refine aw_iinc (v := (x9 + (nI 1))) (lv' := [(9, aI (x9 + (nI 1))), (8, aI (sx1 + sx0)), (0, aR (some j0)), (2, aI x2), (3, aI x3), (4, aI x4), (5, aI x5), (6, aI x6), (7, aI x7)]) hK 8 dX5_askOf_104 rfl rfl (by decide) rfl ?_
  refine aw_goto (tgt := 40) hK dX5_askOf_107 (by decide) ?_
  exact aw_sub [2, 3, 4, 5, 6, 7, 8, 1, 0] rfl (hrec40 h)
set_option maxHeartbeats 4000000 in
set_option maxRecDepth 100000 in
theorem w_X5_askOf_100 {K : Kx} {r9 : Int32} {L9 : LH} (hK : Ok K cX5_askOf 10 RX5 7 165) (hF : Fin K (some (.int)) (some (aI r9)) L9) {rec14 : Nat → Int32 → Int32 → Int32 → Int32 → LH → Rs Int32} (hrec14 : ∀ {j0 : Nat} {x2 : Int32} {x3 : Int32} {x4 : Int32} {x5 : Int32} {L : LH} {mc ms : Nat}, rec14 j0 x2 x3 x4 x5 L = some (r9, L9, mc, ms) → AW K L mc ms 14 [(0, aR (some j0)), (2, aI x2), (3, aI x3), (4, aI x4), (5, aI x5)] []) {rec27 : Nat → Int32 → Int32 → Int32 → Int32 → Int32 → Int32 → LH → Rs Int32} (hrec27 : ∀ {j0 : Nat} {x2 : Int32} {x3 : Int32} {x4 : Int32} {x5 : Int32} {x6 : Int32} {x7 : Int32} {L : LH} {mc ms : Nat}, rec27 j0 x2 x3 x4 x5 x6 x7 L = some (r9, L9, mc, ms) → AW K L mc ms 27 [(0, aR (some j0)), (2, aI x2), (3, aI x3), (4, aI x4), (5, aI x5), (6, aI x6), (7, aI x7)] []) {rec40 : Nat → Int32 → Int32 → Int32 → Int32 → Int32 → Int32 → Int32 → Int32 → LH → Rs Int32} (hrec40 : ∀ {j0 : Nat} {x2 : Int32} {x3 : Int32} {x4 : Int32} {x5 : Int32} {x6 : Int32} {x7 : Int32} {x8 : Int32} {x9 : Int32} {L : LH} {mc ms : Nat}, rec40 j0 x2 x3 x4 x5 x6 x7 x8 x9 L = some (r9, L9, mc, ms) → AW K L mc ms 40 [(0, aR (some j0)), (2, aI x2), (3, aI x3), (4, aI x4), (5, aI x5), (6, aI x6), (7, aI x7), (8, aI x8), (9, aI x9)] []) {j0 : Nat} {x2 : Int32} {x3 : Int32} {x4 : Int32} {x5 : Int32} {x6 : Int32} {x7 : Int32} {x9 : Int32} {sx0 : Int32} {L : LH} {mc ms : Nat} (h : f_X5_askOf_100 rec14 rec27 rec40 j0 x2 x3 x4 x5 x6 x7 x9 sx0 L = some (r9, L9, mc, ms)) : AW K L mc ms 100 [(0, aR (some j0)), (2, aI x2), (3, aI x3), (4, aI x4), (5, aI x5), (6, aI x6), (7, aI x7), (9, aI x9)] [aI sx0] := by
  unfold f_X5_askOf_100 at h
  refine aw_iconst (v := (nI 0)) hK dX5_askOf_100 rfl ?_
  exact w_X5_askOf_101 hK hF (fun h => hrec14 h) (fun h => hrec27 h) (fun h => hrec40 h) h
set_option maxHeartbeats 4000000 in
set_option maxRecDepth 100000 in
theorem w_X5_askOf_124 {K : Kx} {r9 : Int32} {L9 : LH} (hK : Ok K cX5_askOf 10 RX5 7 165) (hF : Fin K (some (.int)) (some (aI r9)) L9) {rec14 : Nat → Int32 → Int32 → Int32 → Int32 → LH → Rs Int32} (hrec14 : ∀ {j0 : Nat} {x2 : Int32} {x3 : Int32} {x4 : Int32} {x5 : Int32} {L : LH} {mc ms : Nat}, rec14 j0 x2 x3 x4 x5 L = some (r9, L9, mc, ms) → AW K L mc ms 14 [(0, aR (some j0)), (2, aI x2), (3, aI x3), (4, aI x4), (5, aI x5)] []) {rec27 : Nat → Int32 → Int32 → Int32 → Int32 → Int32 → Int32 → LH → Rs Int32} (hrec27 : ∀ {j0 : Nat} {x2 : Int32} {x3 : Int32} {x4 : Int32} {x5 : Int32} {x6 : Int32} {x7 : Int32} {L : LH} {mc ms : Nat}, rec27 j0 x2 x3 x4 x5 x6 x7 L = some (r9, L9, mc, ms) → AW K L mc ms 27 [(0, aR (some j0)), (2, aI x2), (3, aI x3), (4, aI x4), (5, aI x5), (6, aI x6), (7, aI x7)] []) {j0 : Nat} {x2 : Int32} {x3 : Int32} {x4 : Int32} {x5 : Int32} {x7 : Int32} {sx0 : Int32} {L : LH} {mc ms : Nat} (h : f_X5_askOf_124 rec14 rec27 j0 x2 x3 x4 x5 x7 sx0 L = some (r9, L9, mc, ms)) : AW K L mc ms 124 [(0, aR (some j0)), (2, aI x2), (3, aI x3), (4, aI x4), (5, aI x5), (7, aI x7)] [aI sx0] := by
  unfold f_X5_askOf_124 at h
  refine aw_istore (lv' := [(6, aI sx0), (0, aR (some j0)), (2, aI x2), (3, aI x3), (4, aI x4), (5, aI x5), (7, aI x7)]) hK dX5_askOf_124 (by decide) rfl ?_
  refine aw_iinc (v := (x7 + (nI 1))) (lv' := [(7, aI (x7 + (nI 1))), (6, aI sx0), (0, aR (some j0)), (2, aI x2), (3, aI x3), (4, aI x4), (5, aI x5)]) hK 6 dX5_askOf_126 rfl rfl (by decide) rfl ?_
  refine aw_goto (tgt := 27) hK dX5_askOf_129 (by decide) ?_
  exact aw_sub [2, 3, 4, 5, 6, 1, 0] rfl (hrec27 h)
set_option maxHeartbeats 4000000 in
set_option maxRecDepth 100000 in
theorem w_X5_askOf_40 {K : Kx} {r9 : Int32} {L9 : LH} (hK : Ok K cX5_askOf 10 RX5 7 165) (hF : Fin K (some (.int)) (some (aI r9)) L9) {rec14 : Nat → Int32 → Int32 → Int32 → Int32 → LH → Rs Int32} (hrec14 : ∀ {j0 : Nat} {x2 : Int32} {x3 : Int32} {x4 : Int32} {x5 : Int32} {L : LH} {mc ms : Nat}, rec14 j0 x2 x3 x4 x5 L = some (r9, L9, mc, ms) → AW K L mc ms 14 [(0, aR (some j0)), (2, aI x2), (3, aI x3), (4, aI x4), (5, aI x5)] []) {rec27 : Nat → Int32 → Int32 → Int32 → Int32 → Int32 → Int32 → LH → Rs Int32} (hrec27 : ∀ {j0 : Nat} {x2 : Int32} {x3 : Int32} {x4 : Int32} {x5 : Int32} {x6 : Int32} {x7 : Int32} {L : LH} {mc ms : Nat}, rec27 j0 x2 x3 x4 x5 x6 x7 L = some (r9, L9, mc, ms) → AW K L mc ms 27 [(0, aR (some j0)), (2, aI x2), (3, aI x3), (4, aI x4), (5, aI x5), (6, aI x6), (7, aI x7)] []) : ∀ {n : Nat} {j0 : Nat} {x2 : Int32} {x3 : Int32} {x4 : Int32} {x5 : Int32} {x6 : Int32} {x7 : Int32} {x8 : Int32} {x9 : Int32} {L : LH} {mc ms : Nat}, f_X5_askOf_40 rec14 rec27 n j0 x2 x3 x4 x5 x6 x7 x8 x9 L = some (r9, L9, mc, ms) → AW K L mc ms 40 [(0, aR (some j0)), (2, aI x2), (3, aI x3), (4, aI x4), (5, aI x5), (6, aI x6), (7, aI x7), (8, aI x8), (9, aI x9)] [] := by
  intro n
  induction n with
  | zero =>
    intro j0 x2 x3 x4 x5 x6 x7 x8 x9 L mc ms h
    have h : (none : Rs Int32) = some (r9, L9, mc, ms) := h
    cases h
  | succ n ih =>
    intro j0 x2 x3 x4 x5 x6 x7 x8 x9 L mc ms h
    unfold f_X5_askOf_40 at h
    refine aw_iload hK 8 dX5_askOf_40 rfl ?_
    refine aw_bipush (v := (nI 10)) hK dX5_askOf_42 rfl ?_
    refine aw_icmp_ge (tgt := 110) hK dX5_askOf_44 (by decide) h (fun h => ?_) (fun h => ?_)
    · refine aw_iload hK 7 dX5_askOf_110 rfl ?_
      refine aw_iload hK 5 dX5_askOf_112 rfl ?_
      refine aw_icmp_le (tgt := 122) hK dX5_askOf_114 (by decide) h (fun h => ?_) (fun h => ?_)
      · refine aw_iload hK 5 dX5_askOf_122 rfl ?_
        exact aw_sub [0, 1, 2, 3, 4, 6] rfl (w_X5_askOf_124 hK hF (fun h => hrec14 h) (fun h => hrec27 h) h)
      · refine aw_iload hK 7 dX5_askOf_117 rfl ?_
        refine aw_goto (tgt := 124) hK dX5_askOf_119 (by decide) ?_
        exact aw_sub [0, 1, 2, 3, 4, 6] rfl (w_X5_askOf_124 hK hF (fun h => hrec14 h) (fun h => hrec27 h) h)
    · refine aw_iload hK 7 dX5_askOf_47 rfl ?_
      refine aw_iload_n hK 1 dX5_askOf_49 rfl rfl ?_
      refine aw_iload hK 6 dX5_askOf_50 rfl ?_
      refine aw_callS_i (n := 2) hK (fun _ _ _ _ q => ct_X5_isIn hK.zk q) (lw_S q1474 q1475 q102 q1476) (by decide +kernel) (by decide) rfl rfl (Nat.le_of_ble_eq_true rfl) dX5_askOf_52 h (fun v2 L1 _ _ h => ?_)
      refine aw_if_eq (tgt := 100) hK dX5_askOf_55 (by decide) h (fun h => ?_) (fun h => ?_)
      · exact aw_sub [0, 1, 2, 3, 4, 5, 6, 8] rfl (w_X5_askOf_100 hK hF (fun h => hrec14 h) (fun h => hrec27 h) (fun h => ih h) h)
      · refine aw_iload_n hK 1 dX5_askOf_58 rfl rfl ?_
        refine aw_iload hK 8 dX5_askOf_59 rfl ?_
        refine aw_callS_i (n := 2) hK (fun _ _ _ _ q => ct_X5_isIn hK.zk q) (lw_S q1474 q1475 q102 q1476) (by decide +kernel) (by decide) rfl rfl (Nat.le_of_ble_eq_true rfl) dX5_askOf_61 h (fun v4 L3 _ _ h => ?_)
        refine aw_if_eq (tgt := 100) hK dX5_askOf_64 (by decide) h (fun h => ?_) (fun h => ?_)
        · exact aw_sub [0, 1, 2, 3, 4, 5, 6, 8] rfl (w_X5_askOf_100 hK hF (fun h => hrec14 h) (fun h => hrec27 h) (fun h => ih h) h)
        · refine aw_aload_n hK 0 dX5_askOf_67 rfl rfl ?_
          refine aw_gR hK fw_c7 40 (by decide) rfl q1233 (fun _ h9 => h9) dX5_askOf_68 h (fun r5 h => ?_)
          refine aw_bipush (v := (nI 24)) hK dX5_askOf_71 rfl ?_
          refine aw_iload hK 6 dX5_askOf_73 rfl ?_
          refine aw_imul hK dX5_askOf_75 ?_
          refine aw_iload hK 4 dX5_askOf_76 rfl ?_
          refine aw_iadd hK dX5_askOf_78 ?_
          obtain _ | j6 := r5
          · exact (fw_nn_no h).elim
          replace h := fw_nn_so h
          refine aw_iald hK dX5_askOf_79 h (fun v7 h => ?_)
          refine aw_aload_n hK 0 dX5_askOf_80 rfl rfl ?_
          refine aw_gR hK fw_c7 40 (by decide) rfl q1233 (fun _ h9 => h9) dX5_askOf_81 h (fun r8 h => ?_)
          refine aw_bipush (v := (nI 24)) hK dX5_askOf_84 rfl ?_
          refine aw_iload hK 8 dX5_askOf_86 rfl ?_
          refine aw_imul hK dX5_askOf_88 ?_
          refine aw_iload hK 4 dX5_askOf_89 rfl ?_
          refine aw_iadd hK dX5_askOf_91 ?_
          obtain _ | j9 := r8
          · exact (fw_nn_no h).elim
          replace h := fw_nn_so h
          refine aw_iald hK dX5_askOf_92 h (fun v10 h => ?_)
          refine aw_icmp_ne (tgt := 100) hK dX5_askOf_93 (by decide) h (fun h => ?_) (fun h => ?_)
          · exact aw_sub [0, 1, 2, 3, 4, 5, 6, 8] rfl (w_X5_askOf_100 hK hF (fun h => hrec14 h) (fun h => hrec27 h) (fun h => ih h) h)
          · refine aw_iconst (v := (nI 1)) hK dX5_askOf_96 rfl ?_
            refine aw_goto (tgt := 101) hK dX5_askOf_97 (by decide) ?_
            exact aw_sub [0, 1, 2, 3, 4, 5, 6, 8] rfl (w_X5_askOf_101 hK hF (fun h => hrec14 h) (fun h => hrec27 h) (fun h => ih h) h)
set_option maxHeartbeats 4000000 in
set_option maxRecDepth 100000 in
theorem w_X5_askOf_175 {K : Kx} {r9 : Int32} {L9 : LH} (hK : Ok K cX5_askOf 10 RX5 7 165) (hF : Fin K (some (.int)) (some (aI r9)) L9) {rec14 : Nat → Int32 → Int32 → Int32 → Int32 → LH → Rs Int32} (hrec14 : ∀ {j0 : Nat} {x2 : Int32} {x3 : Int32} {x4 : Int32} {x5 : Int32} {L : LH} {mc ms : Nat}, rec14 j0 x2 x3 x4 x5 L = some (r9, L9, mc, ms) → AW K L mc ms 14 [(0, aR (some j0)), (2, aI x2), (3, aI x3), (4, aI x4), (5, aI x5)] []) {j0 : Nat} {x2 : Int32} {x3 : Int32} {x5 : Int32} {sx0 : Int32} {L : LH} {mc ms : Nat} (h : f_X5_askOf_175 rec14 j0 x2 x3 x5 sx0 L = some (r9, L9, mc, ms)) : AW K L mc ms 175 [(0, aR (some j0)), (2, aI x2), (3, aI x3), (5, aI x5)] [aI sx0] := by
  unfold f_X5_askOf_175 at h
  refine aw_istore (lv' := [(4, aI sx0), (0, aR (some j0)), (2, aI x2), (3, aI x3), (5, aI x5)]) hK dX5_askOf_175 (by decide) rfl ?_
  refine aw_iinc (v := (x5 + (nI 1))) (lv' := [(5, aI (x5 + (nI 1))), (4, aI sx0), (0, aR (some j0)), (2, aI x2), (3, aI x3)]) hK 4 dX5_askOf_177 rfl rfl (by decide) rfl ?_
  refine aw_goto (tgt := 14) hK dX5_askOf_180 (by decide) ?_
  exact aw_sub [2, 3, 4, 1, 0] rfl (hrec14 h)
set_option maxHeartbeats 4000000 in
set_option maxRecDepth 100000 in
theorem w_X5_askOf_162 {K : Kx} {r9 : Int32} {L9 : LH} (hK : Ok K cX5_askOf 10 RX5 7 165) (hF : Fin K (some (.int)) (some (aI r9)) L9) {rec14 : Nat → Int32 → Int32 → Int32 → Int32 → LH → Rs Int32} (hrec14 : ∀ {j0 : Nat} {x2 : Int32} {x3 : Int32} {x4 : Int32} {x5 : Int32} {L : LH} {mc ms : Nat}, rec14 j0 x2 x3 x4 x5 L = some (r9, L9, mc, ms) → AW K L mc ms 14 [(0, aR (some j0)), (2, aI x2), (3, aI x3), (4, aI x4), (5, aI x5)] []) {j0 : Nat} {x2 : Int32} {x4 : Int32} {x5 : Int32} {x6 : Int32} {x7 : Int32} {sx0 : Int32} {L : LH} {mc ms : Nat} (h : f_X5_askOf_162 rec14 j0 x2 x4 x5 x6 x7 sx0 L = some (r9, L9, mc, ms)) : AW K L mc ms 162 [(0, aR (some j0)), (2, aI x2), (4, aI x4), (5, aI x5), (6, aI x6), (7, aI x7)] [aI sx0] := by
  unfold f_X5_askOf_162 at h
  refine aw_istore_n (lv' := [(3, aI sx0), (0, aR (some j0)), (2, aI x2), (4, aI x4), (5, aI x5), (6, aI x6), (7, aI x7)]) hK dX5_askOf_162 rfl (by decide) rfl ?_
  refine aw_iload hK 6 dX5_askOf_163 rfl ?_
  refine aw_if_eq (tgt := 173) hK dX5_askOf_165 (by decide) h (fun h => ?_) (fun h => ?_)
  · refine aw_iload hK 3 dX5_askOf_173 rfl ?_
    exact aw_sub [1, 2, 0, 4] rfl (w_X5_askOf_175 hK hF (fun h => hrec14 h) h)
  · refine aw_iload hK 5 dX5_askOf_168 rfl ?_
    refine aw_goto (tgt := 175) hK dX5_askOf_170 (by decide) ?_
    exact aw_sub [1, 2, 0, 4] rfl (w_X5_askOf_175 hK hF (fun h => hrec14 h) h)
set_option maxHeartbeats 4000000 in
set_option maxRecDepth 100000 in
theorem w_X5_askOf_149 {K : Kx} {r9 : Int32} {L9 : LH} (hK : Ok K cX5_askOf 10 RX5 7 165) (hF : Fin K (some (.int)) (some (aI r9)) L9) {rec14 : Nat → Int32 → Int32 → Int32 → Int32 → LH → Rs Int32} (hrec14 : ∀ {j0 : Nat} {x2 : Int32} {x3 : Int32} {x4 : Int32} {x5 : Int32} {L : LH} {mc ms : Nat}, rec14 j0 x2 x3 x4 x5 L = some (r9, L9, mc, ms) → AW K L mc ms 14 [(0, aR (some j0)), (2, aI x2), (3, aI x3), (4, aI x4), (5, aI x5)] []) {j0 : Nat} {x2 : Int32} {x3 : Int32} {x4 : Int32} {x5 : Int32} {x6 : Int32} {sx0 : Int32} {L : LH} {mc ms : Nat} (h : f_X5_askOf_149 rec14 j0 x2 x3 x4 x5 x6 sx0 L = some (r9, L9, mc, ms)) : AW K L mc ms 149 [(0, aR (some j0)), (2, aI x2), (3, aI x3), (4, aI x4), (5, aI x5), (6, aI x6)] [aI sx0] := by
  unfold f_X5_askOf_149 at h
  refine aw_istore (lv' := [(7, aI sx0), (0, aR (some j0)), (2, aI x2), (3, aI x3), (4, aI x4), (5, aI x5), (6, aI x6)]) hK dX5_askOf_149 (by decide) rfl ?_
  refine aw_iload hK 0 dX5_askOf_151 rfl ?_
  refine aw_if_eq (tgt := 161) hK dX5_askOf_153 (by decide) h (fun h => ?_) (fun h => ?_)
  · refine aw_iload_n hK 3 dX5_askOf_161 rfl rfl ?_
    exact aw_sub [1, 2, 4, 5, 6, 0] rfl (w_X5_askOf_162 hK hF (fun h => hrec14 h) h)
  · refine aw_iload hK 5 dX5_askOf_156 rfl ?_
    refine aw_goto (tgt := 162) hK dX5_askOf_158 (by decide) ?_
    exact aw_sub [1, 2, 4, 5, 6, 0] rfl (w_X5_askOf_162 hK hF (fun h => hrec14 h) h)
set_option maxHeartbeats 4000000 in
set_option maxRecDepth 100000 in
theorem w_X5_askOf_144 {K : Kx} {r9 : Int32} {L9 : LH} (hK : Ok K cX5_askOf 10 RX5 7 165) (hF : Fin K (some (.int)) (some (aI r9)) L9) {rec14 : Nat → Int32 → Int32 → Int32 → Int32 → LH → Rs Int32} (hrec14 : ∀ {j0 : Nat} {x2 : Int32} {x3 : Int32} {x4 : Int32} {x5 : Int32} {L : LH} {mc ms : Nat}, rec14 j0 x2 x3 x4 x5 L = some (r9, L9, mc, ms) → AW K L mc ms 14 [(0, aR (some j0)), (2, aI x2), (3, aI x3), (4, aI x4), (5, aI x5)] []) {j0 : Nat} {x2 : Int32} {x3 : Int32} {x4 : Int32} {x5 : Int32} {x6 : Int32} {L : LH} {mc ms : Nat} (h : f_X5_askOf_144 rec14 j0 x2 x3 x4 x5 x6 L = some (r9, L9, mc, ms)) : AW K L mc ms 144 [(0, aR (some j0)), (2, aI x2), (3, aI x3), (4, aI x4), (5, aI x5), (6, aI x6)] [] := by
  unfold f_X5_askOf_144 at h
  refine aw_iconst (v := (nI 1)) hK dX5_askOf_144 rfl ?_
  refine aw_goto (tgt := 149) hK dX5_askOf_145 (by decide) ?_
  exact w_X5_askOf_149 hK hF (fun h => hrec14 h) h
set_option maxHeartbeats 4000000 in
set_option maxRecDepth 100000 in
theorem w_X5_askOf_27 {K : Kx} {r9 : Int32} {L9 : LH} (hK : Ok K cX5_askOf 10 RX5 7 165) (hF : Fin K (some (.int)) (some (aI r9)) L9) {rec14 : Nat → Int32 → Int32 → Int32 → Int32 → LH → Rs Int32} (hrec14 : ∀ {j0 : Nat} {x2 : Int32} {x3 : Int32} {x4 : Int32} {x5 : Int32} {L : LH} {mc ms : Nat}, rec14 j0 x2 x3 x4 x5 L = some (r9, L9, mc, ms) → AW K L mc ms 14 [(0, aR (some j0)), (2, aI x2), (3, aI x3), (4, aI x4), (5, aI x5)] []) : ∀ {n : Nat} {j0 : Nat} {x2 : Int32} {x3 : Int32} {x4 : Int32} {x5 : Int32} {x6 : Int32} {x7 : Int32} {L : LH} {mc ms : Nat}, f_X5_askOf_27 rec14 n j0 x2 x3 x4 x5 x6 x7 L = some (r9, L9, mc, ms) → AW K L mc ms 27 [(0, aR (some j0)), (2, aI x2), (3, aI x3), (4, aI x4), (5, aI x5), (6, aI x6), (7, aI x7)] [] := by
  intro n
  induction n with
  | zero =>
    intro j0 x2 x3 x4 x5 x6 x7 L mc ms h
    have h : (none : Rs Int32) = some (r9, L9, mc, ms) := h
    cases h
  | succ n ih =>
    intro j0 x2 x3 x4 x5 x6 x7 L mc ms h
    unfold f_X5_askOf_27 at h
    refine aw_iload hK 6 dX5_askOf_27 rfl ?_
    refine aw_bipush (v := (nI 10)) hK dX5_askOf_29 rfl ?_
    refine aw_icmp_ge (tgt := 132) hK dX5_askOf_31 (by decide) h (fun h => ?_) (fun h => ?_)
    · refine aw_iload_n hK 2 dX5_askOf_132 rfl rfl ?_
      refine aw_iconst (v := (-nI 1)) hK dX5_askOf_133 rfl ?_
      refine aw_icmp_eq (tgt := 144) hK dX5_askOf_134 (by decide) h (fun h => ?_) (fun h => ?_)
      · exact aw_sub [0, 1, 2, 3, 4, 5] rfl (w_X5_askOf_144 hK hF (fun h => hrec14 h) h)
      · refine aw_iload hK 5 dX5_askOf_137 rfl ?_
        refine aw_iload hK 3 dX5_askOf_139 rfl ?_
        refine aw_icmp_ge (tgt := 148) hK dX5_askOf_141 (by decide) h (fun h => ?_) (fun h => ?_)
        · refine aw_iconst (v := (nI 0)) hK dX5_askOf_148 rfl ?_
          exact aw_sub [0, 1, 2, 3, 4, 5] rfl (w_X5_askOf_149 hK hF (fun h => hrec14 h) h)
        · exact aw_sub [0, 1, 2, 3, 4, 5] rfl (w_X5_askOf_144 hK hF (fun h => hrec14 h) h)
    · refine aw_iconst (v := (nI 0)) hK dX5_askOf_34 rfl ?_
      refine aw_istore (lv' := [(8, aI (nI 0)), (0, aR (some j0)), (2, aI x2), (3, aI x3), (4, aI x4), (5, aI x5), (6, aI x6), (7, aI x7)]) hK dX5_askOf_35 (by decide) rfl ?_
      refine aw_iconst (v := (nI 1)) hK dX5_askOf_37 rfl ?_
      refine aw_istore (lv' := [(9, aI (nI 1)), (8, aI (nI 0)), (0, aR (some j0)), (2, aI x2), (3, aI x3), (4, aI x4), (5, aI x5), (6, aI x6), (7, aI x7)]) hK dX5_askOf_38 (by decide) rfl ?_
      exact aw_sub [2, 3, 4, 5, 6, 7, 8, 1, 0] rfl (w_X5_askOf_40 hK hF (fun h => hrec14 h) (fun h => ih h) h)
set_option maxHeartbeats 4000000 in
set_option maxRecDepth 100000 in
theorem w_X5_askOf_14 {K : Kx} {r9 : Int32} {L9 : LH} (hK : Ok K cX5_askOf 10 RX5 7 165) (hF : Fin K (some (.int)) (some (aI r9)) L9) : ∀ {n : Nat} {j0 : Nat} {x2 : Int32} {x3 : Int32} {x4 : Int32} {x5 : Int32} {L : LH} {mc ms : Nat}, f_X5_askOf_14 n j0 x2 x3 x4 x5 L = some (r9, L9, mc, ms) → AW K L mc ms 14 [(0, aR (some j0)), (2, aI x2), (3, aI x3), (4, aI x4), (5, aI x5)] [] := by
  intro n
  induction n with
  | zero =>
    intro j0 x2 x3 x4 x5 L mc ms h
    have h : (none : Rs Int32) = some (r9, L9, mc, ms) := h
    cases h
  | succ n ih =>
    intro j0 x2 x3 x4 x5 L mc ms h
    unfold f_X5_askOf_14 at h
    refine aw_iload hK 4 dX5_askOf_14 rfl ?_
    refine aw_bipush (v := (nI 24)) hK dX5_askOf_16 rfl ?_
    refine aw_icmp_ge (tgt := 183) hK dX5_askOf_18 (by decide) h (fun h => ?_) (fun h => ?_)
    · refine aw_iload_n hK 2 dX5_askOf_183 rfl rfl ?_
      exact aw_iret hK dX5_askOf_184 h hF
    · refine aw_iconst (v := (nI 0)) hK dX5_askOf_21 rfl ?_
      refine aw_istore (lv' := [(6, aI (nI 0)), (0, aR (some j0)), (2, aI x2), (3, aI x3), (4, aI x4), (5, aI x5)]) hK dX5_askOf_22 (by decide) rfl ?_
      refine aw_iconst (v := (nI 1)) hK dX5_askOf_24 rfl ?_
      refine aw_istore (lv' := [(7, aI (nI 1)), (6, aI (nI 0)), (0, aR (some j0)), (2, aI x2), (3, aI x3), (4, aI x4), (5, aI x5)]) hK dX5_askOf_25 (by decide) rfl ?_
      exact aw_sub [2, 3, 4, 5, 6, 1, 0] rfl (w_X5_askOf_27 hK hF (fun h => ih h) h)
set_option maxHeartbeats 4000000 in
set_option maxRecDepth 100000 in
theorem w_X5_askOf_0 {K : Kx} {r9 : Int32} {L9 : LH} (hK : Ok K cX5_askOf 10 RX5 7 165) (hF : Fin K (some (.int)) (some (aI r9)) L9) {j0 : Nat} {x1 : Int32} {L : LH} {mc ms : Nat} (h : f_X5_askOf j0 x1 L = some (r9, L9, mc, ms)) : AW K L mc ms 0 [(0, aR (some j0)), (1, aI x1)] [] := by
  unfold f_X5_askOf at h
  refine aw_aload_n hK 0 dX5_askOf_0 rfl rfl ?_
  refine aw_iload_n hK 1 dX5_askOf_1 rfl rfl ?_
  obtain ⟨hj, h⟩ := fw_is_h h
  refine aw_callV_i (n := 1) hK fw_c7 hj (fun _ _ _ _ q => ct_X5_weightsBy hK.zk q) (lw_V q1617 q1619 qs82 q102 q1620) (by decide +kernel) (by decide) rfl rfl (Nat.le_of_ble_eq_true rfl) dX5_askOf_2 h (fun v2 L1 _ _ h => ?_)
  refine aw_istore_n (lv' := [(2, aI v2), (0, aR (some j0)), (1, aI x1)]) hK dX5_askOf_5 rfl (by decide) rfl ?_
  refine aw_iconst (v := (-nI 1)) hK dX5_askOf_6 rfl ?_
  refine aw_istore_n (lv' := [(3, aI (-nI 1)), (2, aI v2), (0, aR (some j0)), (1, aI x1)]) hK dX5_askOf_7 rfl (by decide) rfl ?_
  refine aw_iconst (v := (nI 0)) hK dX5_askOf_8 rfl ?_
  refine aw_istore (lv' := [(4, aI (nI 0)), (3, aI (-nI 1)), (2, aI v2), (0, aR (some j0)), (1, aI x1)]) hK dX5_askOf_9 (by decide) rfl ?_
  refine aw_iconst (v := (nI 0)) hK dX5_askOf_11 rfl ?_
  refine aw_istore (lv' := [(5, aI (nI 0)), (4, aI (nI 0)), (3, aI (-nI 1)), (2, aI v2), (0, aR (some j0)), (1, aI x1)]) hK dX5_askOf_12 (by decide) rfl ?_
  exact aw_sub [4, 3, 2, 1, 0] rfl (w_X5_askOf_14 hK hF h)
theorem ct_X5_askOf {Z : fw_ZT} (hZ : fw_Zok Z) {j0 : Nat} {x1 : Int32} {L : LH} {r9 : Int32} {L9 : LH} {mc ms : Nat} (h : f_X5_askOf j0 x1 L = some (r9, L9, mc, ms)) : Ct Z yX5_askOf (ws_ yX5_askOf cX5_askOf 10 (some (.int))) 7 165 [aR (some j0), aI x1] L (some (aI r9)) L9 mc ms :=
  ct_of (own := RX5) hZ (by decide +kernel) rfl (Nat.le_of_ble_eq_true rfl) (fun K _ hK hF hini => w_X5_askOf_0 hK hF h)
def f_X5_chanceOf_58 (rec10 : Nat → Int32 → Int32 → Int32 → Int64 → Int32 → LH → Rs Int64) (rec27 : Nat → Int32 → Int32 → Int32 → Int64 → Int32 → Int64 → Int32 → LH → Rs Int64) (j0 : Nat) (x1 : Int32) (x2 : Int32) (x3 : Int32) (y4 : Int64) (x6 : Int32) (x9 : Int32) (sy0 : Int64) (sy1 : Int64) (L : LH) : Rs Int64 :=
  rec27 j0 x1 x2 x3 y4 x6 (sy1 * sy0) (x9 + (nI 1)) L
def f_X5_chanceOf_103 (rec10 : Nat → Int32 → Int32 → Int32 → Int64 → Int32 → LH → Rs Int64) (j0 : Nat) (x1 : Int32) (x2 : Int32) (x3 : Int32) (y4 : Int64) (x6 : Int32) (L : LH) : Rs Int64 :=
  rec10 j0 x1 x2 x3 y4 (x6 + (nI 1)) L
def f_X5_chanceOf_100 (rec10 : Nat → Int32 → Int32 → Int32 → Int64 → Int32 → LH → Rs Int64) (j0 : Nat) (x1 : Int32) (x2 : Int32) (x3 : Int32) (x6 : Int32) (sy0 : Int64) (sy1 : Int64) (L : LH) : Rs Int64 :=
  f_X5_chanceOf_103 rec10 j0 x1 x2 x3 (sy1 + sy0) x6 L
def f_X5_chanceOf_27 (rec10 : Nat → Int32 → Int32 → Int32 → Int64 → Int32 → LH → Rs Int64) : Nat → Nat → Int32 → Int32 → Int32 → Int64 → Int32 → Int64 → Int32 → LH → Rs Int64
  | 0, _, _, _, _, _, _, _, _, _ => none
  | n + 1, j0, x1, x2, x3, y4, x6, y7, x9, L =>
    fw_gI 8 L j0 9 fun v1 =>
    if v1 ≤ x9 then (
      if y7 ≤ (0 : Int64) then (
        f_X5_chanceOf_103 rec10 j0 x1 x2 x3 y4 x6 L
      ) else (
        fw_pI 8 L j0 14 x6 fun L2 =>
        fw_is 8 L2 j0 <|
        fw_cl (f_X5_runs j0 L2) fun _ L3 =>
        fw_gI 8 L3 j0 22 fun v4 =>
        if v4 = x2 then (
          f_X5_chanceOf_100 rec10 j0 x1 x2 x3 x6 y7 y4 L3
        ) else (
          f_X5_chanceOf_100 rec10 j0 x1 x2 x3 x6 (0 : Int64) y4 L3
        )
      )
    ) else (
      fw_cl (f_X5_isIn x6 x9 L) fun v6 L5 =>
      if v6 = 0 then (
        f_X5_chanceOf_58 rec10 (f_X5_chanceOf_27 rec10 n) j0 x1 x2 x3 y4 x6 x9 x1.toInt64 y7 L5
      ) else (
        f_X5_chanceOf_58 rec10 (f_X5_chanceOf_27 rec10 n) j0 x1 x2 x3 y4 x6 x9 ((nI 16) - x1).toInt64 y7 L5
      )
    )
def f_X5_chanceOf_10 : Nat → Nat → Int32 → Int32 → Int32 → Int64 → Int32 → LH → Rs Int64
  | 0, _, _, _, _, _, _, _ => none
  | n + 1, j0, x1, x2, x3, y4, x6, L =>
    fw_gI 8 L j0 9 fun v1 =>
    if ((nI 1) <<< (v1 &&& 31)) ≤ x6 then (
      fw_gI 8 L j0 9 fun v2 =>
      fw_cl (f_X5_lowest y4 ((1 : Int64) <<< (((nI 4) * v2).toInt64 &&& 63)) x3 L) fun v4 L3 =>
      some (v4, L3, 0, 0)
    ) else (
      f_X5_chanceOf_27 (f_X5_chanceOf_10 n) fw_fuel j0 x1 x2 x3 y4 x6 (1 : Int64) (nI 0) L
    )
def f_X5_chanceOf (j0 : Nat) (x1 : Int32) (x2 : Int32) (x3 : Int32) (L : LH) : Rs Int64 :=
  fw_is 8 L j0 <|
  fw_cl (f_X5_asTold j0 L) fun _ L1 =>
  f_X5_chanceOf_10 fw_fuel j0 x1 x2 x3 (0 : Int64) (nI 0) L1
set_option maxHeartbeats 4000000 in
set_option maxRecDepth 100000 in
theorem w_X5_chanceOf_58 {K : Kx} {r9 : Int64} {L9 : LH} (hK : Ok K cX5_chanceOf 10 RX5 6 140) (hF : Fin K (some (.long)) (some (aL r9)) L9) {rec10 : Nat → Int32 → Int32 → Int32 → Int64 → Int32 → LH → Rs Int64} (hrec10 : ∀ {j0 : Nat} {x1 : Int32} {x2 : Int32} {x3 : Int32} {y4 : Int64} {x6 : Int32} {L : LH} {mc ms : Nat}, rec10 j0 x1 x2 x3 y4 x6 L = some (r9, L9, mc, ms) → AW K L mc ms 10 [(0, aR (some j0)), (1, aI x1), (2, aI x2), (3, aI x3), (4, aL y4), (6, aI x6)] []) {rec27 : Nat → Int32 → Int32 → Int32 → Int64 → Int32 → Int64 → Int32 → LH → Rs Int64} (hrec27 : ∀ {j0 : Nat} {x1 : Int32} {x2 : Int32} {x3 : Int32} {y4 : Int64} {x6 : Int32} {y7 : Int64} {x9 : Int32} {L : LH} {mc ms : Nat}, rec27 j0 x1 x2 x3 y4 x6 y7 x9 L = some (r9, L9, mc, ms) → AW K L mc ms 27 [(0, aR (some j0)), (1, aI x1), (2, aI x2), (3, aI x3), (4, aL y4), (6, aI x6), (7, aL y7), (9, aI x9)] []) {j0 : Nat} {x1 : Int32} {x2 : Int32} {x3 : Int32} {y4 : Int64} {x6 : Int32} {x9 : Int32} {sy0 : Int64} {sy1 : Int64} {L : LH} {mc ms : Nat} (h : f_X5_chanceOf_58 rec10 rec27 j0 x1 x2 x3 y4 x6 x9 sy0 sy1 L = some (r9, L9, mc, ms)) : AW K L mc ms 58 [(0, aR (some j0)), (1, aI x1), (2, aI x2), (3, aI x3), (4, aL y4), (6, aI x6), (9, aI x9)] [aL sy0, aL sy1] := by
  unfold f_X5_chanceOf_58 at h
  refine aw_lmul hK dX5_chanceOf_58 ?_
  refine aw_lstore (lv' := [(7, aL (sy1 * sy0)), (0, aR (some j0)), (1, aI x1), (2, aI x2), (3, aI x3), (4, aL y4), (6, aI x6), (9, aI x9)]) hK dX5_chanceOf_59 (by decide) rfl ?_
  refine aw_iinc (v := (x9 + (nI 1))) (lv' := [(9, aI (x9 + (nI 1))), (7, aL (sy1 * sy0)), (0, aR (some j0)), (1, aI x1), (2, aI x2), (3, aI x3), (4, aL y4), (6, aI x6)]) hK 7 dX5_chanceOf_61 rfl rfl (by decide) rfl ?_
  refine aw_goto (tgt := 27) hK dX5_chanceOf_64 (by decide) ?_
  exact aw_sub [2, 3, 4, 5, 6, 7, 1, 0] rfl (hrec27 h)
set_option maxHeartbeats 4000000 in
set_option maxRecDepth 100000 in
theorem w_X5_chanceOf_103 {K : Kx} {r9 : Int64} {L9 : LH} (hK : Ok K cX5_chanceOf 10 RX5 6 140) (hF : Fin K (some (.long)) (some (aL r9)) L9) {rec10 : Nat → Int32 → Int32 → Int32 → Int64 → Int32 → LH → Rs Int64} (hrec10 : ∀ {j0 : Nat} {x1 : Int32} {x2 : Int32} {x3 : Int32} {y4 : Int64} {x6 : Int32} {L : LH} {mc ms : Nat}, rec10 j0 x1 x2 x3 y4 x6 L = some (r9, L9, mc, ms) → AW K L mc ms 10 [(0, aR (some j0)), (1, aI x1), (2, aI x2), (3, aI x3), (4, aL y4), (6, aI x6)] []) {j0 : Nat} {x1 : Int32} {x2 : Int32} {x3 : Int32} {y4 : Int64} {x6 : Int32} {L : LH} {mc ms : Nat} (h : f_X5_chanceOf_103 rec10 j0 x1 x2 x3 y4 x6 L = some (r9, L9, mc, ms)) : AW K L mc ms 103 [(0, aR (some j0)), (1, aI x1), (2, aI x2), (3, aI x3), (4, aL y4), (6, aI x6)] [] := by
  unfold f_X5_chanceOf_103 at h
  refine aw_iinc (v := (x6 + (nI 1))) (lv' := [(6, aI (x6 + (nI 1))), (0, aR (some j0)), (1, aI x1), (2, aI x2), (3, aI x3), (4, aL y4)]) hK 5 dX5_chanceOf_103 rfl rfl (by decide) rfl ?_
  refine aw_goto (tgt := 10) hK dX5_chanceOf_106 (by decide) ?_
  exact aw_sub [1, 2, 3, 4, 5, 0] rfl (hrec10 h)
set_option maxHeartbeats 4000000 in
set_option maxRecDepth 100000 in
theorem w_X5_chanceOf_100 {K : Kx} {r9 : Int64} {L9 : LH} (hK : Ok K cX5_chanceOf 10 RX5 6 140) (hF : Fin K (some (.long)) (some (aL r9)) L9) {rec10 : Nat → Int32 → Int32 → Int32 → Int64 → Int32 → LH → Rs Int64} (hrec10 : ∀ {j0 : Nat} {x1 : Int32} {x2 : Int32} {x3 : Int32} {y4 : Int64} {x6 : Int32} {L : LH} {mc ms : Nat}, rec10 j0 x1 x2 x3 y4 x6 L = some (r9, L9, mc, ms) → AW K L mc ms 10 [(0, aR (some j0)), (1, aI x1), (2, aI x2), (3, aI x3), (4, aL y4), (6, aI x6)] []) {j0 : Nat} {x1 : Int32} {x2 : Int32} {x3 : Int32} {x6 : Int32} {sy0 : Int64} {sy1 : Int64} {L : LH} {mc ms : Nat} (h : f_X5_chanceOf_100 rec10 j0 x1 x2 x3 x6 sy0 sy1 L = some (r9, L9, mc, ms)) : AW K L mc ms 100 [(0, aR (some j0)), (1, aI x1), (2, aI x2), (3, aI x3), (6, aI x6)] [aL sy0, aL sy1] := by
  unfold f_X5_chanceOf_100 at h
  refine aw_ladd hK dX5_chanceOf_100 ?_
  refine aw_lstore (lv' := [(4, aL (sy1 + sy0)), (0, aR (some j0)), (1, aI x1), (2, aI x2), (3, aI x3), (6, aI x6)]) hK dX5_chanceOf_101 (by decide) rfl ?_
  exact aw_sub [1, 2, 3, 4, 0, 5] rfl (w_X5_chanceOf_103 hK hF (fun h => hrec10 h) h)
set_option maxHeartbeats 4000000 in
set_option maxRecDepth 100000 in
theorem w_X5_chanceOf_27 {K : Kx} {r9 : Int64} {L9 : LH} (hK : Ok K cX5_chanceOf 10 RX5 6 140) (hF : Fin K (some (.long)) (some (aL r9)) L9) {rec10 : Nat → Int32 → Int32 → Int32 → Int64 → Int32 → LH → Rs Int64} (hrec10 : ∀ {j0 : Nat} {x1 : Int32} {x2 : Int32} {x3 : Int32} {y4 : Int64} {x6 : Int32} {L : LH} {mc ms : Nat}, rec10 j0 x1 x2 x3 y4 x6 L = some (r9, L9, mc, ms) → AW K L mc ms 10 [(0, aR (some j0)), (1, aI x1), (2, aI x2), (3, aI x3), (4, aL y4), (6, aI x6)] []) : ∀ {n : Nat} {j0 : Nat} {x1 : Int32} {x2 : Int32} {x3 : Int32} {y4 : Int64} {x6 : Int32} {y7 : Int64} {x9 : Int32} {L : LH} {mc ms : Nat}, f_X5_chanceOf_27 rec10 n j0 x1 x2 x3 y4 x6 y7 x9 L = some (r9, L9, mc, ms) → AW K L mc ms 27 [(0, aR (some j0)), (1, aI x1), (2, aI x2), (3, aI x3), (4, aL y4), (6, aI x6), (7, aL y7), (9, aI x9)] [] := by
  intro n
  induction n with
  | zero =>
    intro j0 x1 x2 x3 y4 x6 y7 x9 L mc ms h
    have h : (none : Rs Int64) = some (r9, L9, mc, ms) := h
    cases h
  | succ n ih =>
    intro j0 x1 x2 x3 y4 x6 y7 x9 L mc ms h
    unfold f_X5_chanceOf_27 at h
    refine aw_iload hK 7 dX5_chanceOf_27 rfl ?_
    refine aw_aload_n hK 0 dX5_chanceOf_29 rfl rfl ?_
    refine aw_gI hK fw_c7 9 (by decide) rfl q1202 (fun _ h9 => h9) dX5_chanceOf_30 h (fun v1 h => ?_)
    refine aw_icmp_ge (tgt := 67) hK dX5_chanceOf_33 (by decide) h (fun h => ?_) (fun h => ?_)
    · refine aw_lload hK 6 dX5_chanceOf_67 rfl ?_
      refine aw_lconst (v := 0) hK dX5_chanceOf_69 rfl ?_
      refine aw_lcmp_le (tgt := 103) hK dX5_chanceOf_70 dX5_chanceOf_71 (by decide) h (fun h => ?_) (fun h => ?_)
      · exact aw_sub [0, 1, 2, 3, 4, 5] rfl (w_X5_chanceOf_103 hK hF (fun h => hrec10 h) h)
      · refine aw_aload_n hK 0 dX5_chanceOf_74 rfl rfl ?_
        refine aw_iload hK 5 dX5_chanceOf_75 rfl ?_
        refine aw_pI hK fw_c7 14 (by decide) rfl q1207 (fun _ h9 => h9) rfl rfl rfl dX5_chanceOf_77 h (fun L2 h => ?_)
        refine aw_aload_n hK 0 dX5_chanceOf_80 rfl rfl ?_
        obtain ⟨hj, h⟩ := fw_is_h h
        refine aw_callV_v (n := 0) hK fw_c7 hj (fun _ _ _ _ q => ct_X5_runs hK.zk q) (lw_V q1458 q1460 qs58 q102 q1461) (by decide +kernel) (by decide) rfl rfl (Nat.le_of_ble_eq_true rfl) dX5_chanceOf_81 h (fun _ L3 _ _ h => ?_)
        refine aw_lload hK 4 dX5_chanceOf_84 rfl ?_
        refine aw_aload_n hK 0 dX5_chanceOf_86 rfl rfl ?_
        refine aw_gI hK fw_c7 22 (by decide) rfl q1215 (fun _ h9 => h9) dX5_chanceOf_87 h (fun v4 h => ?_)
        refine aw_iload_n hK 2 dX5_chanceOf_90 rfl rfl ?_
        refine aw_icmp_ne (tgt := 99) hK dX5_chanceOf_91 (by decide) h (fun h => ?_) (fun h => ?_)
        · refine aw_lconst (v := 0) hK dX5_chanceOf_99 rfl ?_
          exact aw_sub [0, 1, 2, 3, 5] rfl (w_X5_chanceOf_100 hK hF (fun h => hrec10 h) h)
        · refine aw_lload hK 6 dX5_chanceOf_94 rfl ?_
          refine aw_goto (tgt := 100) hK dX5_chanceOf_96 (by decide) ?_
          exact aw_sub [0, 1, 2, 3, 5] rfl (w_X5_chanceOf_100 hK hF (fun h => hrec10 h) h)
    · refine aw_lload hK 6 dX5_chanceOf_36 rfl ?_
      refine aw_iload hK 5 dX5_chanceOf_38 rfl ?_
      refine aw_iload hK 7 dX5_chanceOf_40 rfl ?_
      refine aw_callS_i (n := 2) hK (fun _ _ _ _ q => ct_X5_isIn hK.zk q) (lw_S q1474 q1475 q102 q1476) (by decide +kernel) (by decide) rfl rfl (Nat.le_of_ble_eq_true rfl) dX5_chanceOf_42 h (fun v6 L5 _ _ h => ?_)
      refine aw_if_eq (tgt := 56) hK dX5_chanceOf_45 (by decide) h (fun h => ?_) (fun h => ?_)
      · refine aw_iload_n hK 1 dX5_chanceOf_56 rfl rfl ?_
        refine aw_i2l hK dX5_chanceOf_57 ?_
        exact aw_sub [0, 1, 2, 3, 4, 5, 7] rfl (w_X5_chanceOf_58 hK hF (fun h => hrec10 h) (fun h => ih h) h)
      · refine aw_bipush (v := (nI 16)) hK dX5_chanceOf_48 rfl ?_
        refine aw_iload_n hK 1 dX5_chanceOf_50 rfl rfl ?_
        refine aw_isub hK dX5_chanceOf_51 ?_
        refine aw_i2l hK dX5_chanceOf_52 ?_
        refine aw_goto (tgt := 58) hK dX5_chanceOf_53 (by decide) ?_
        exact aw_sub [0, 1, 2, 3, 4, 5, 7] rfl (w_X5_chanceOf_58 hK hF (fun h => hrec10 h) (fun h => ih h) h)
set_option maxHeartbeats 4000000 in
set_option maxRecDepth 100000 in
theorem w_X5_chanceOf_10 {K : Kx} {r9 : Int64} {L9 : LH} (hK : Ok K cX5_chanceOf 10 RX5 6 140) (hF : Fin K (some (.long)) (some (aL r9)) L9) : ∀ {n : Nat} {j0 : Nat} {x1 : Int32} {x2 : Int32} {x3 : Int32} {y4 : Int64} {x6 : Int32} {L : LH} {mc ms : Nat}, f_X5_chanceOf_10 n j0 x1 x2 x3 y4 x6 L = some (r9, L9, mc, ms) → AW K L mc ms 10 [(0, aR (some j0)), (1, aI x1), (2, aI x2), (3, aI x3), (4, aL y4), (6, aI x6)] [] := by
  intro n
  induction n with
  | zero =>
    intro j0 x1 x2 x3 y4 x6 L mc ms h
    have h : (none : Rs Int64) = some (r9, L9, mc, ms) := h
    cases h
  | succ n ih =>
    intro j0 x1 x2 x3 y4 x6 L mc ms h
    unfold f_X5_chanceOf_10 at h
    refine aw_iload hK 5 dX5_chanceOf_10 rfl ?_
    refine aw_iconst (v := (nI 1)) hK dX5_chanceOf_12 rfl ?_
    refine aw_aload_n hK 0 dX5_chanceOf_13 rfl rfl ?_
    refine aw_gI hK fw_c7 9 (by decide) rfl q1202 (fun _ h9 => h9) dX5_chanceOf_14 h (fun v1 h => ?_)
    refine aw_ishl hK dX5_chanceOf_17 ?_
    refine aw_icmp_ge (tgt := 109) hK dX5_chanceOf_18 (by decide) h (fun h => ?_) (fun h => ?_)
    · refine aw_lload hK 4 dX5_chanceOf_109 rfl ?_
      refine aw_lconst (v := 1) hK dX5_chanceOf_111 rfl ?_
      refine aw_iconst (v := (nI 4)) hK dX5_chanceOf_112 rfl ?_
      refine aw_aload_n hK 0 dX5_chanceOf_113 rfl rfl ?_
      refine aw_gI hK fw_c7 9 (by decide) rfl q1202 (fun _ h9 => h9) dX5_chanceOf_114 h (fun v2 h => ?_)
      refine aw_imul hK dX5_chanceOf_117 ?_
      refine aw_lshl hK dX5_chanceOf_118 ?_
      refine aw_iload_n hK 3 dX5_chanceOf_119 rfl rfl ?_
      refine aw_callS_l (n := 3) hK (fun _ _ _ _ q => ct_X5_lowest hK.zk q) (lw_S q1641 q1642 q102 q1643) (by decide +kernel) (by decide) rfl rfl (Nat.le_of_ble_eq_true rfl) dX5_chanceOf_120 h (fun v4 L3 _ _ h => ?_)
      exact aw_lret hK dX5_chanceOf_123 h hF
    · refine aw_lconst (v := 1) hK dX5_chanceOf_21 rfl ?_
      refine aw_lstore (lv' := [(7, aL (1 : Int64)), (0, aR (some j0)), (1, aI x1), (2, aI x2), (3, aI x3), (4, aL y4), (6, aI x6)]) hK dX5_chanceOf_22 (by decide) rfl ?_
      refine aw_iconst (v := (nI 0)) hK dX5_chanceOf_24 rfl ?_
      refine aw_istore (lv' := [(9, aI (nI 0)), (7, aL (1 : Int64)), (0, aR (some j0)), (1, aI x1), (2, aI x2), (3, aI x3), (4, aL y4), (6, aI x6)]) hK dX5_chanceOf_25 (by decide) rfl ?_
      exact aw_sub [2, 3, 4, 5, 6, 7, 1, 0] rfl (w_X5_chanceOf_27 hK hF (fun h => ih h) h)
set_option maxHeartbeats 4000000 in
set_option maxRecDepth 100000 in
theorem w_X5_chanceOf_0 {K : Kx} {r9 : Int64} {L9 : LH} (hK : Ok K cX5_chanceOf 10 RX5 6 140) (hF : Fin K (some (.long)) (some (aL r9)) L9) {j0 : Nat} {x1 : Int32} {x2 : Int32} {x3 : Int32} {L : LH} {mc ms : Nat} (h : f_X5_chanceOf j0 x1 x2 x3 L = some (r9, L9, mc, ms)) : AW K L mc ms 0 [(0, aR (some j0)), (1, aI x1), (2, aI x2), (3, aI x3)] [] := by
  unfold f_X5_chanceOf at h
  refine aw_aload_n hK 0 dX5_chanceOf_0 rfl rfl ?_
  obtain ⟨hj, h⟩ := fw_is_h h
  refine aw_callV_v (n := 0) hK fw_c7 hj (fun _ _ _ _ q => ct_X5_asTold hK.zk q) (lw_V q1454 q1456 qs57 q102 q1457) (by decide +kernel) (by decide) rfl rfl (Nat.le_of_ble_eq_true rfl) dX5_chanceOf_1 h (fun _ L1 _ _ h => ?_)
  refine aw_lconst (v := 0) hK dX5_chanceOf_4 rfl ?_
  refine aw_lstore (lv' := [(4, aL (0 : Int64)), (0, aR (some j0)), (1, aI x1), (2, aI x2), (3, aI x3)]) hK dX5_chanceOf_5 (by decide) rfl ?_
  refine aw_iconst (v := (nI 0)) hK dX5_chanceOf_7 rfl ?_
  refine aw_istore (lv' := [(6, aI (nI 0)), (4, aL (0 : Int64)), (0, aR (some j0)), (1, aI x1), (2, aI x2), (3, aI x3)]) hK dX5_chanceOf_8 (by decide) rfl ?_
  exact aw_sub [2, 3, 4, 5, 1, 0] rfl (w_X5_chanceOf_10 hK hF h)
theorem ct_X5_chanceOf {Z : fw_ZT} (hZ : fw_Zok Z) {j0 : Nat} {x1 : Int32} {x2 : Int32} {x3 : Int32} {L : LH} {r9 : Int64} {L9 : LH} {mc ms : Nat} (h : f_X5_chanceOf j0 x1 x2 x3 L = some (r9, L9, mc, ms)) : Ct Z yX5_chanceOf (ws_ yX5_chanceOf cX5_chanceOf 10 (some (.long))) 6 140 [aR (some j0), aI x1, aI x2, aI x3] L (some (aL r9)) L9 mc ms :=
  ct_of (own := RX5) hZ (by decide +kernel) rfl (Nat.le_of_ble_eq_true rfl) (fun K _ hK hF hini => w_X5_chanceOf_0 hK hF h)
def f_X5_yearsOf_66 (rec10 : Nat → Int32 → Int32 → Int32 → Int32 → LH → Rs Int32) (j0 : Nat) (x2 : Int32) (x3 : Int32) (x4 : Int32) (x5 : Int32) (sx0 : Int32) (sx1 : Int32) (sr2 : Option Nat) (L : LH) : Rs Int32 :=
  fw_nn sr2 fun j1 =>
  fw_wr 100 L j1 sx1 sx0 fun L2 =>
  rec10 j0 x2 x3 x4 (x5 + (nI 1)) L2
def f_X5_yearsOf_38 (rec10 : Nat → Int32 → Int32 → Int32 → Int32 → LH → Rs Int32) (j0 : Nat) (x2 : Int32) (x3 : Int32) (x5 : Int32) (sx0 : Int32) (L : LH) : Rs Int32 :=
  fw_gR 8 L j0 13 fun r1 =>
  if x2 ≤ x5 then (
    f_X5_yearsOf_66 rec10 j0 x2 x3 sx0 x5 (nI 1) ((nI 24) + x5) r1 L
  ) else (
    f_X5_yearsOf_66 rec10 j0 x2 x3 sx0 x5 (((sx0.toUInt32 >>> ((nI 16).toUInt32 &&& Int32.toUInt32 31)).toInt32) - ((sx0.toUInt32 >>> ((nI 16).toUInt32 &&& Int32.toUInt32 31)).toInt32) / (nI 3) * (nI 3)) ((nI 24) + x5) r1 L
  )
def f_X5_yearsOf_10 : Nat → Nat → Int32 → Int32 → Int32 → Int32 → LH → Rs Int32
  | 0, _, _, _, _, _, _ => none
  | n + 1, j0, x2, x3, x4, x5, L =>
    if (nI 24) ≤ x5 then (
      fw_is 8 L j0 <|
      fw_cl (f_X5_runs j0 L) fun _ L1 =>
      if x3 = 0 then (
        fw_gI 8 L1 j0 21 fun v3 =>
        some (v3, L1, 0, 0)
      ) else (
        fw_gI 8 L1 j0 22 fun v2 =>
        some (v2, L1, 0, 0)
      )
    ) else (
      if x2 ≤ x5 then (
        f_X5_yearsOf_38 (f_X5_yearsOf_10 n) j0 x2 x3 x5 x4 L
      ) else (
        f_X5_yearsOf_38 (f_X5_yearsOf_10 n) j0 x2 x3 x5 (((1103515245 : Int32) * x4) + (nI 12345)) L
      )
    )
def f_X5_yearsOf (j0 : Nat) (x1 : Int32) (x2 : Int32) (x3 : Int32) (L : LH) : Rs Int32 :=
  fw_is 8 L j0 <|
  fw_cl (f_X5_asTold j0 L) fun _ L1 =>
  f_X5_yearsOf_10 fw_fuel j0 x2 x3 x1 (nI 0) L1
set_option maxHeartbeats 4000000 in
set_option maxRecDepth 100000 in
theorem w_X5_yearsOf_66 {K : Kx} {r9 : Int32} {L9 : LH} (hK : Ok K cX5_yearsOf 6 RX5 6 140) (hF : Fin K (some (.int)) (some (aI r9)) L9) {rec10 : Nat → Int32 → Int32 → Int32 → Int32 → LH → Rs Int32} (hrec10 : ∀ {j0 : Nat} {x2 : Int32} {x3 : Int32} {x4 : Int32} {x5 : Int32} {L : LH} {mc ms : Nat}, rec10 j0 x2 x3 x4 x5 L = some (r9, L9, mc, ms) → AW K L mc ms 10 [(0, aR (some j0)), (2, aI x2), (3, aI x3), (4, aI x4), (5, aI x5)] []) {j0 : Nat} {x2 : Int32} {x3 : Int32} {x4 : Int32} {x5 : Int32} {sx0 : Int32} {sx1 : Int32} {sr2 : Option Nat} {L : LH} {mc ms : Nat} (h : f_X5_yearsOf_66 rec10 j0 x2 x3 x4 x5 sx0 sx1 sr2 L = some (r9, L9, mc, ms)) : AW K L mc ms 66 [(0, aR (some j0)), (2, aI x2), (3, aI x3), (4, aI x4), (5, aI x5)] [aI sx0, aI sx1, aR sr2] := by
  unfold f_X5_yearsOf_66 at h
  obtain _ | j1 := sr2
  · exact (fw_nn_no h).elim
  replace h := fw_nn_so h
  refine aw_iast hK dX5_yearsOf_66 h (fun L2 h => ?_)
  refine aw_iinc (v := (x5 + (nI 1))) (lv' := [(5, aI (x5 + (nI 1))), (0, aR (some j0)), (2, aI x2), (3, aI x3), (4, aI x4)]) hK 4 dX5_yearsOf_67 rfl rfl (by decide) rfl ?_
  refine aw_goto (tgt := 10) hK dX5_yearsOf_70 (by decide) ?_
  exact aw_sub [1, 2, 3, 4, 0] rfl (hrec10 h)
set_option maxHeartbeats 4000000 in
set_option maxRecDepth 100000 in
theorem w_X5_yearsOf_38 {K : Kx} {r9 : Int32} {L9 : LH} (hK : Ok K cX5_yearsOf 6 RX5 6 140) (hF : Fin K (some (.int)) (some (aI r9)) L9) {rec10 : Nat → Int32 → Int32 → Int32 → Int32 → LH → Rs Int32} (hrec10 : ∀ {j0 : Nat} {x2 : Int32} {x3 : Int32} {x4 : Int32} {x5 : Int32} {L : LH} {mc ms : Nat}, rec10 j0 x2 x3 x4 x5 L = some (r9, L9, mc, ms) → AW K L mc ms 10 [(0, aR (some j0)), (2, aI x2), (3, aI x3), (4, aI x4), (5, aI x5)] []) {j0 : Nat} {x2 : Int32} {x3 : Int32} {x5 : Int32} {sx0 : Int32} {L : LH} {mc ms : Nat} (h : f_X5_yearsOf_38 rec10 j0 x2 x3 x5 sx0 L = some (r9, L9, mc, ms)) : AW K L mc ms 38 [(0, aR (some j0)), (2, aI x2), (3, aI x3), (5, aI x5)] [aI sx0] := by
  unfold f_X5_yearsOf_38 at h
  refine aw_istore (lv' := [(4, aI sx0), (0, aR (some j0)), (2, aI x2), (3, aI x3), (5, aI x5)]) hK dX5_yearsOf_38 (by decide) rfl ?_
  refine aw_aload_n hK 1 dX5_yearsOf_40 rfl rfl ?_
  refine aw_gR hK fw_c7 13 (by decide) rfl q1206 (fun _ h9 => h9) dX5_yearsOf_41 h (fun r1 h => ?_)
  refine aw_bipush (v := (nI 24)) hK dX5_yearsOf_44 rfl ?_
  refine aw_iload hK 4 dX5_yearsOf_46 rfl ?_
  refine aw_iadd hK dX5_yearsOf_48 ?_
  refine aw_iload hK 4 dX5_yearsOf_49 rfl ?_
  refine aw_iload_n hK 2 dX5_yearsOf_51 rfl rfl ?_
  refine aw_icmp_ge (tgt := 65) hK dX5_yearsOf_52 (by decide) h (fun h => ?_) (fun h => ?_)
  · refine aw_iconst (v := (nI 1)) hK dX5_yearsOf_65 rfl ?_
    exact aw_sub [1, 2, 3, 0, 4] rfl (w_X5_yearsOf_66 hK hF (fun h => hrec10 h) h)
  · refine aw_iload hK 0 dX5_yearsOf_55 rfl ?_
    refine aw_bipush (v := (nI 16)) hK dX5_yearsOf_57 rfl ?_
    refine aw_iushr hK dX5_yearsOf_59 ?_
    refine aw_iconst (v := (nI 3)) hK dX5_yearsOf_60 rfl ?_
    refine aw_irem hK dX5_yearsOf_61 (by decide) ?_
    refine aw_goto (tgt := 66) hK dX5_yearsOf_62 (by decide) ?_
    exact aw_sub [1, 2, 3, 0, 4] rfl (w_X5_yearsOf_66 hK hF (fun h => hrec10 h) h)
set_option maxHeartbeats 4000000 in
set_option maxRecDepth 100000 in
theorem w_X5_yearsOf_10 {K : Kx} {r9 : Int32} {L9 : LH} (hK : Ok K cX5_yearsOf 6 RX5 6 140) (hF : Fin K (some (.int)) (some (aI r9)) L9) : ∀ {n : Nat} {j0 : Nat} {x2 : Int32} {x3 : Int32} {x4 : Int32} {x5 : Int32} {L : LH} {mc ms : Nat}, f_X5_yearsOf_10 n j0 x2 x3 x4 x5 L = some (r9, L9, mc, ms) → AW K L mc ms 10 [(0, aR (some j0)), (2, aI x2), (3, aI x3), (4, aI x4), (5, aI x5)] [] := by
  intro n
  induction n with
  | zero =>
    intro j0 x2 x3 x4 x5 L mc ms h
    have h : (none : Rs Int32) = some (r9, L9, mc, ms) := h
    cases h
  | succ n ih =>
    intro j0 x2 x3 x4 x5 L mc ms h
    unfold f_X5_yearsOf_10 at h
    refine aw_iload hK 4 dX5_yearsOf_10 rfl ?_
    refine aw_bipush (v := (nI 24)) hK dX5_yearsOf_12 rfl ?_
    refine aw_icmp_ge (tgt := 73) hK dX5_yearsOf_14 (by decide) h (fun h => ?_) (fun h => ?_)
    · refine aw_aload_n hK 0 dX5_yearsOf_73 rfl rfl ?_
      obtain ⟨hj, h⟩ := fw_is_h h
      refine aw_callV_v (n := 0) hK fw_c7 hj (fun _ _ _ _ q => ct_X5_runs hK.zk q) (lw_V q1458 q1460 qs58 q102 q1461) (by decide +kernel) (by decide) rfl rfl (Nat.le_of_ble_eq_true rfl) dX5_yearsOf_74 h (fun _ L1 _ _ h => ?_)
      refine aw_iload_n hK 2 dX5_yearsOf_77 rfl rfl ?_
      refine aw_if_ne (tgt := 88) hK dX5_yearsOf_78 (by decide) h (fun h => ?_) (fun h => ?_)
      · refine aw_aload_n hK 0 dX5_yearsOf_88 rfl rfl ?_
        refine aw_gI hK fw_c7 22 (by decide) rfl q1215 (fun _ h9 => h9) dX5_yearsOf_89 h (fun v2 h => ?_)
        exact aw_iret hK dX5_yearsOf_92 h hF
      · refine aw_aload_n hK 0 dX5_yearsOf_81 rfl rfl ?_
        refine aw_gI hK fw_c7 21 (by decide) rfl q1214 (fun _ h9 => h9) dX5_yearsOf_82 h (fun v3 h => ?_)
        refine aw_goto (tgt := 92) hK dX5_yearsOf_85 (by decide) ?_
        exact aw_iret hK dX5_yearsOf_92 h hF
    · refine aw_iload hK 4 dX5_yearsOf_17 rfl ?_
      refine aw_iload_n hK 1 dX5_yearsOf_19 rfl rfl ?_
      refine aw_icmp_ge (tgt := 36) hK dX5_yearsOf_20 (by decide) h (fun h => ?_) (fun h => ?_)
      · refine aw_iload hK 3 dX5_yearsOf_36 rfl ?_
        exact aw_sub [0, 1, 2, 4] rfl (w_X5_yearsOf_38 hK hF (fun h => ih h) h)
      · refine aw_ldc_w (v := 1103515245) hK q1656 dX5_yearsOf_23 ?_
        refine aw_iload hK 3 dX5_yearsOf_26 rfl ?_
        refine aw_imul hK dX5_yearsOf_28 ?_
        refine aw_sipush (v := (nI 12345)) hK dX5_yearsOf_29 rfl ?_
        refine aw_iadd hK dX5_yearsOf_32 ?_
        refine aw_goto (tgt := 38) hK dX5_yearsOf_33 (by decide) ?_
        exact aw_sub [0, 1, 2, 4] rfl (w_X5_yearsOf_38 hK hF (fun h => ih h) h)
set_option maxHeartbeats 4000000 in
set_option maxRecDepth 100000 in
theorem w_X5_yearsOf_0 {K : Kx} {r9 : Int32} {L9 : LH} (hK : Ok K cX5_yearsOf 6 RX5 6 140) (hF : Fin K (some (.int)) (some (aI r9)) L9) {j0 : Nat} {x1 : Int32} {x2 : Int32} {x3 : Int32} {L : LH} {mc ms : Nat} (h : f_X5_yearsOf j0 x1 x2 x3 L = some (r9, L9, mc, ms)) : AW K L mc ms 0 [(0, aR (some j0)), (1, aI x1), (2, aI x2), (3, aI x3)] [] := by
  unfold f_X5_yearsOf at h
  refine aw_aload_n hK 0 dX5_yearsOf_0 rfl rfl ?_
  obtain ⟨hj, h⟩ := fw_is_h h
  refine aw_callV_v (n := 0) hK fw_c7 hj (fun _ _ _ _ q => ct_X5_asTold hK.zk q) (lw_V q1454 q1456 qs57 q102 q1457) (by decide +kernel) (by decide) rfl rfl (Nat.le_of_ble_eq_true rfl) dX5_yearsOf_1 h (fun _ L1 _ _ h => ?_)
  refine aw_iload_n hK 1 dX5_yearsOf_4 rfl rfl ?_
  refine aw_istore (lv' := [(4, aI x1), (0, aR (some j0)), (1, aI x1), (2, aI x2), (3, aI x3)]) hK dX5_yearsOf_5 (by decide) rfl ?_
  refine aw_iconst (v := (nI 0)) hK dX5_yearsOf_7 rfl ?_
  refine aw_istore (lv' := [(5, aI (nI 0)), (4, aI x1), (0, aR (some j0)), (1, aI x1), (2, aI x2), (3, aI x3)]) hK dX5_yearsOf_8 (by decide) rfl ?_
  exact aw_sub [2, 4, 5, 1, 0] rfl (w_X5_yearsOf_10 hK hF h)
theorem ct_X5_yearsOf {Z : fw_ZT} (hZ : fw_Zok Z) {j0 : Nat} {x1 : Int32} {x2 : Int32} {x3 : Int32} {L : LH} {r9 : Int32} {L9 : LH} {mc ms : Nat} (h : f_X5_yearsOf j0 x1 x2 x3 L = some (r9, L9, mc, ms)) : Ct Z yX5_yearsOf (ws_ yX5_yearsOf cX5_yearsOf 6 (some (.int))) 6 140 [aR (some j0), aI x1, aI x2, aI x3] L (some (aI r9)) L9 mc ms :=
  ct_of (own := RX5) hZ (by decide +kernel) rfl (Nat.le_of_ble_eq_true rfl) (fun K _ hK hF hini => w_X5_yearsOf_0 hK hF h)
def f_X5_fault (j0 : Nat) (x1 : Int32) (L : LH) : Rs Int32 :=
  fw_cl (f_X5_isText x1 L) fun v2 L1 =>
  if v2 = 0 then (
    some ((-nI 2), L1, 0, 0)
  ) else (
    fw_is 8 L1 j0 <|
    fw_cl (f_X5_faultOf j0 x1 L1) fun v4 L3 =>
    some (v4, L3, 0, 0)
  )
set_option maxHeartbeats 4000000 in
set_option maxRecDepth 100000 in
theorem w_X5_fault_0 {K : Kx} {r9 : Int32} {L9 : LH} (hK : Ok K cX5_fault 2 RX5 4 98) (hF : Fin K (some (.int)) (some (aI r9)) L9) {j0 : Nat} {x1 : Int32} {L : LH} {mc ms : Nat} (h : f_X5_fault j0 x1 L = some (r9, L9, mc, ms)) : AW K L mc ms 0 [(0, aR (some j0)), (1, aI x1)] [] := by
  unfold f_X5_fault at h
  refine aw_iload_n hK 1 dX5_fault_0 rfl rfl ?_
  refine aw_callS_i (n := 1) hK (fun _ _ _ _ q => ct_X5_isText hK.zk q) (lw_S q1340 q1341 q102 q1342) (by decide +kernel) (by decide) rfl rfl (Nat.le_of_ble_eq_true rfl) dX5_fault_1 h (fun v2 L1 _ _ h => ?_)
  refine aw_if_eq (tgt := 15) hK dX5_fault_4 (by decide) h (fun h => ?_) (fun h => ?_)
  · refine aw_bipush (v := (-nI 2)) hK dX5_fault_15 rfl ?_
    exact aw_iret hK dX5_fault_17 h hF
  · refine aw_aload_n hK 0 dX5_fault_7 rfl rfl ?_
    refine aw_iload_n hK 1 dX5_fault_8 rfl rfl ?_
    obtain ⟨hj, h⟩ := fw_is_h h
    refine aw_callV_i (n := 1) hK fw_c7 hj (fun _ _ _ _ q => ct_X5_faultOf hK.zk q) (lw_V q1358 q1360 qs44 q102 q1361) (by decide +kernel) (by decide) rfl rfl (Nat.le_of_ble_eq_true rfl) dX5_fault_9 h (fun v4 L3 _ _ h => ?_)
    refine aw_goto (tgt := 17) hK dX5_fault_12 (by decide) ?_
    exact aw_iret hK dX5_fault_17 h hF
theorem ct_X5_fault {Z : fw_ZT} (hZ : fw_Zok Z) {j0 : Nat} {x1 : Int32} {L : LH} {r9 : Int32} {L9 : LH} {mc ms : Nat} (h : f_X5_fault j0 x1 L = some (r9, L9, mc, ms)) : Ct Z yX5_fault (ws_ yX5_fault cX5_fault 2 (some (.int))) 4 98 [aR (some j0), aI x1] L (some (aI r9)) L9 mc ms :=
  ct_of (own := RX5) hZ (by decide +kernel) rfl (Nat.le_of_ble_eq_true rfl) (fun K _ hK hF hini => w_X5_fault_0 hK hF h)
def f_X5_isPuller (j0 : Nat) (x1 : Int32) (L : LH) : Rs Int32 :=
  fw_is 8 L j0 <|
  fw_cl (f_X5_reads j0 L) fun _ L1 =>
  fw_is 8 L1 j0 <|
  fw_cl (f_X5_isThereOne j0 x1 L1) fun v3 L2 =>
  fw_bo v3 <|
  some (v3, L2, 0, 0)
set_option maxHeartbeats 4000000 in
set_option maxRecDepth 100000 in
theorem w_X5_isPuller_0 {K : Kx} {r9 : Int32} {L9 : LH} (hK : Ok K cX5_isPuller 2 RX5 5 119) (hF : Fin K (some (.boolean)) (some (aI r9)) L9) {j0 : Nat} {x1 : Int32} {L : LH} {mc ms : Nat} (h : f_X5_isPuller j0 x1 L = some (r9, L9, mc, ms)) : AW K L mc ms 0 [(0, aR (some j0)), (1, aI x1)] [] := by
  unfold f_X5_isPuller at h
  refine aw_aload_n hK 0 dX5_isPuller_0 rfl rfl ?_
  obtain ⟨hj, h⟩ := fw_is_h h
  refine aw_callV_v (n := 0) hK fw_c7 hj (fun _ _ _ _ q => ct_X5_reads hK.zk q) (lw_V q1389 q1391 qs50 q102 q1392) (by decide +kernel) (by decide) rfl rfl (Nat.le_of_ble_eq_true rfl) dX5_isPuller_1 h (fun _ L1 _ _ h => ?_)
  refine aw_aload_n hK 0 dX5_isPuller_4 rfl rfl ?_
  refine aw_iload_n hK 1 dX5_isPuller_5 rfl rfl ?_
  obtain ⟨hj, h⟩ := fw_is_h h
  refine aw_callV_i (n := 1) hK fw_c7 hj (fun _ _ _ _ q => ct_X5_isThereOne hK.zk q) (lw_V q1393 q1395 qs51 q102 q1396) (by decide +kernel) (by decide) rfl rfl (Nat.le_of_ble_eq_true rfl) dX5_isPuller_6 h (fun v3 L2 _ _ h => ?_)
  obtain ⟨hbo, h⟩ := fw_bo_h h
  exact aw_zret hK hbo dX5_isPuller_9 h hF
theorem ct_X5_isPuller {Z : fw_ZT} (hZ : fw_Zok Z) {j0 : Nat} {x1 : Int32} {L : LH} {r9 : Int32} {L9 : LH} {mc ms : Nat} (h : f_X5_isPuller j0 x1 L = some (r9, L9, mc, ms)) : Ct Z yX5_isPuller (ws_ yX5_isPuller cX5_isPuller 2 (some (.boolean))) 5 119 [aR (some j0), aI x1] L (some (aI r9)) L9 mc ms :=
  ct_of (own := RX5) hZ (by decide +kernel) rfl (Nat.le_of_ble_eq_true rfl) (fun K _ hK hF hini => w_X5_isPuller_0 hK hF h)
def f_X5_call (j0 : Nat) (x1 : Int32) (x2 : Int32) (L : LH) : Rs Int32 :=
  fw_cl (f_X5_isTwo x1 L) fun v2 L1 =>
  if v2 = 0 then (
    some ((-nI 2), L1, 0, 0)
  ) else (
    fw_cl (f_X5_isBeat x2 L1) fun v4 L3 =>
    if v4 = 0 then (
      some ((-nI 2), L3, 0, 0)
    ) else (
      fw_is 8 L3 j0 <|
      fw_cl (f_X5_callOf j0 x1 x2 L3) fun v6 L5 =>
      some (v6, L5, 0, 0)
    )
  )
set_option maxHeartbeats 4000000 in
set_option maxRecDepth 100000 in
theorem w_X5_call_0 {K : Kx} {r9 : Int32} {L9 : LH} (hK : Ok K cX5_call 3 RX5 6 141) (hF : Fin K (some (.int)) (some (aI r9)) L9) {j0 : Nat} {x1 : Int32} {x2 : Int32} {L : LH} {mc ms : Nat} (h : f_X5_call j0 x1 x2 L = some (r9, L9, mc, ms)) : AW K L mc ms 0 [(0, aR (some j0)), (1, aI x1), (2, aI x2)] [] := by
  unfold f_X5_call at h
  refine aw_iload_n hK 1 dX5_call_0 rfl rfl ?_
  refine aw_callS_i (n := 1) hK (fun _ _ _ _ q => ct_X5_isTwo hK.zk q) (lw_S q1408 q1409 q102 q1410) (by decide +kernel) (by decide) rfl rfl (Nat.le_of_ble_eq_true rfl) dX5_call_1 h (fun v2 L1 _ _ h => ?_)
  refine aw_if_eq (tgt := 23) hK dX5_call_4 (by decide) h (fun h => ?_) (fun h => ?_)
  · refine aw_bipush (v := (-nI 2)) hK dX5_call_23 rfl ?_
    exact aw_iret hK dX5_call_25 h hF
  · refine aw_iload_n hK 2 dX5_call_7 rfl rfl ?_
    refine aw_callS_i (n := 1) hK (fun _ _ _ _ q => ct_X5_isBeat hK.zk q) (lw_S q1411 q1412 q102 q1413) (by decide +kernel) (by decide) rfl rfl (Nat.le_of_ble_eq_true rfl) dX5_call_8 h (fun v4 L3 _ _ h => ?_)
    refine aw_if_eq (tgt := 23) hK dX5_call_11 (by decide) h (fun h => ?_) (fun h => ?_)
    · refine aw_bipush (v := (-nI 2)) hK dX5_call_23 rfl ?_
      exact aw_iret hK dX5_call_25 h hF
    · refine aw_aload_n hK 0 dX5_call_14 rfl rfl ?_
      refine aw_iload_n hK 1 dX5_call_15 rfl rfl ?_
      refine aw_iload_n hK 2 dX5_call_16 rfl rfl ?_
      obtain ⟨hj, h⟩ := fw_is_h h
      refine aw_callV_i (n := 2) hK fw_c7 hj (fun _ _ _ _ q => ct_X5_callOf hK.zk q) (lw_V q1414 q1416 qs53 q102 q1417) (by decide +kernel) (by decide) rfl rfl (Nat.le_of_ble_eq_true rfl) dX5_call_17 h (fun v6 L5 _ _ h => ?_)
      refine aw_goto (tgt := 25) hK dX5_call_20 (by decide) ?_
      exact aw_iret hK dX5_call_25 h hF
theorem ct_X5_call {Z : fw_ZT} (hZ : fw_Zok Z) {j0 : Nat} {x1 : Int32} {x2 : Int32} {L : LH} {r9 : Int32} {L9 : LH} {mc ms : Nat} (h : f_X5_call j0 x1 x2 L = some (r9, L9, mc, ms)) : Ct Z yX5_call (ws_ yX5_call cX5_call 3 (some (.int))) 6 141 [aR (some j0), aI x1, aI x2] L (some (aI r9)) L9 mc ms :=
  ct_of (own := RX5) hZ (by decide +kernel) rfl (Nat.le_of_ble_eq_true rfl) (fun K _ hK hF hini => w_X5_call_0 hK hF h)
def f_X5_runsTold (j0 : Nat) (L : LH) : Rs Unit :=
  fw_is 8 L j0 <|
  fw_cl (f_X5_asTold j0 L) fun _ L1 =>
  fw_is 8 L1 j0 <|
  fw_cl (f_X5_runs j0 L1) fun _ L2 =>
  some ((), L2, 0, 0)
set_option maxHeartbeats 4000000 in
set_option maxRecDepth 100000 in
theorem w_X5_runsTold_0 {K : Kx} {r9 : Unit} {L9 : LH} (hK : Ok K cX5_runsTold 1 RX5 6 140) (hF : Fin K none none L9) {j0 : Nat} {L : LH} {mc ms : Nat} (h : f_X5_runsTold j0 L = some (r9, L9, mc, ms)) : AW K L mc ms 0 [(0, aR (some j0))] [] := by
  unfold f_X5_runsTold at h
  refine aw_aload_n hK 0 dX5_runsTold_0 rfl rfl ?_
  obtain ⟨hj, h⟩ := fw_is_h h
  refine aw_callV_v (n := 0) hK fw_c7 hj (fun _ _ _ _ q => ct_X5_asTold hK.zk q) (lw_V q1454 q1456 qs57 q102 q1457) (by decide +kernel) (by decide) rfl rfl (Nat.le_of_ble_eq_true rfl) dX5_runsTold_1 h (fun _ L1 _ _ h => ?_)
  refine aw_aload_n hK 0 dX5_runsTold_4 rfl rfl ?_
  obtain ⟨hj, h⟩ := fw_is_h h
  refine aw_callV_v (n := 0) hK fw_c7 hj (fun _ _ _ _ q => ct_X5_runs hK.zk q) (lw_V q1458 q1460 qs58 q102 q1461) (by decide +kernel) (by decide) rfl rfl (Nat.le_of_ble_eq_true rfl) dX5_runsTold_5 h (fun _ L2 _ _ h => ?_)
  exact aw_vret hK dX5_runsTold_8 h hF
theorem ct_X5_runsTold {Z : fw_ZT} (hZ : fw_Zok Z) {j0 : Nat} {L : LH} {r9 : Unit} {L9 : LH} {mc ms : Nat} (h : f_X5_runsTold j0 L = some (r9, L9, mc, ms)) : Ct Z yX5_runsTold (ws_ yX5_runsTold cX5_runsTold 1 none) 6 140 [aR (some j0)] L none L9 mc ms :=
  ct_of (own := RX5) hZ (by decide +kernel) rfl (Nat.le_of_ble_eq_true rfl) (fun K _ hK hF hini => w_X5_runsTold_0 hK hF h)
def f_X5_atOf (j0 : Nat) (x1 : Int32) (x2 : Int32) (x3 : Int32) (L : LH) : Rs Int32 :=
  fw_is 8 L j0 <|
  fw_cl (f_X5_runsTold j0 L) fun _ L1 =>
  if x3 = 0 then (
    fw_gR 8 L1 j0 32 fun r5 =>
    fw_nn r5 fun j6 =>
    fw_rd 100 L1 j6 (((nI 16) * x1) + x2) fun v7 =>
    some (v7, L1, 0, 0)
  ) else (
    fw_gR 8 L1 j0 33 fun r2 =>
    fw_nn r2 fun j3 =>
    fw_rd 100 L1 j3 (((nI 16) * x1) + x2) fun v4 =>
    some (v4, L1, 0, 0)
  )
set_option maxHeartbeats 4000000 in
set_option maxRecDepth 100000 in
theorem w_X5_atOf_0 {K : Kx} {r9 : Int32} {L9 : LH} (hK : Ok K cX5_atOf 4 RX5 7 160) (hF : Fin K (some (.int)) (some (aI r9)) L9) {j0 : Nat} {x1 : Int32} {x2 : Int32} {x3 : Int32} {L : LH} {mc ms : Nat} (h : f_X5_atOf j0 x1 x2 x3 L = some (r9, L9, mc, ms)) : AW K L mc ms 0 [(0, aR (some j0)), (1, aI x1), (2, aI x2), (3, aI x3)] [] := by
  unfold f_X5_atOf at h
  refine aw_aload_n hK 0 dX5_atOf_0 rfl rfl ?_
  obtain ⟨hj, h⟩ := fw_is_h h
  refine aw_callV_v (n := 0) hK fw_c7 hj (fun _ _ _ _ q => ct_X5_runsTold hK.zk q) (lw_V q1450 q1452 qs56 q102 q1453) (by decide +kernel) (by decide) rfl rfl (Nat.le_of_ble_eq_true rfl) dX5_atOf_1 h (fun _ L1 _ _ h => ?_)
  refine aw_iload_n hK 3 dX5_atOf_4 rfl rfl ?_
  refine aw_if_ne (tgt := 22) hK dX5_atOf_5 (by decide) h (fun h => ?_) (fun h => ?_)
  · refine aw_aload_n hK 0 dX5_atOf_22 rfl rfl ?_
    refine aw_gR hK fw_c7 33 (by decide) rfl q1226 (fun _ h9 => h9) dX5_atOf_23 h (fun r2 h => ?_)
    refine aw_bipush (v := (nI 16)) hK dX5_atOf_26 rfl ?_
    refine aw_iload_n hK 1 dX5_atOf_28 rfl rfl ?_
    refine aw_imul hK dX5_atOf_29 ?_
    refine aw_iload_n hK 2 dX5_atOf_30 rfl rfl ?_
    refine aw_iadd hK dX5_atOf_31 ?_
    obtain _ | j3 := r2
    · exact (fw_nn_no h).elim
    replace h := fw_nn_so h
    refine aw_iald hK dX5_atOf_32 h (fun v4 h => ?_)
    exact aw_iret hK dX5_atOf_33 h hF
  · refine aw_aload_n hK 0 dX5_atOf_8 rfl rfl ?_
    refine aw_gR hK fw_c7 32 (by decide) rfl q1225 (fun _ h9 => h9) dX5_atOf_9 h (fun r5 h => ?_)
    refine aw_bipush (v := (nI 16)) hK dX5_atOf_12 rfl ?_
    refine aw_iload_n hK 1 dX5_atOf_14 rfl rfl ?_
    refine aw_imul hK dX5_atOf_15 ?_
    refine aw_iload_n hK 2 dX5_atOf_16 rfl rfl ?_
    refine aw_iadd hK dX5_atOf_17 ?_
    obtain _ | j6 := r5
    · exact (fw_nn_no h).elim
    replace h := fw_nn_so h
    refine aw_iald hK dX5_atOf_18 h (fun v7 h => ?_)
    refine aw_goto (tgt := 33) hK dX5_atOf_19 (by decide) ?_
    exact aw_iret hK dX5_atOf_33 h hF
theorem ct_X5_atOf {Z : fw_ZT} (hZ : fw_Zok Z) {j0 : Nat} {x1 : Int32} {x2 : Int32} {x3 : Int32} {L : LH} {r9 : Int32} {L9 : LH} {mc ms : Nat} (h : f_X5_atOf j0 x1 x2 x3 L = some (r9, L9, mc, ms)) : Ct Z yX5_atOf (ws_ yX5_atOf cX5_atOf 4 (some (.int))) 7 160 [aR (some j0), aI x1, aI x2, aI x3] L (some (aI r9)) L9 mc ms :=
  ct_of (own := RX5) hZ (by decide +kernel) rfl (Nat.le_of_ble_eq_true rfl) (fun K _ hK hF hini => w_X5_atOf_0 hK hF h)
def f_X5_wonOf (j0 : Nat) (x1 : Int32) (L : LH) : Rs Int32 :=
  fw_is 8 L j0 <|
  fw_cl (f_X5_runsTold j0 L) fun _ L1 =>
  if x1 = 0 then (
    fw_gI 8 L1 j0 22 fun v3 =>
    some (v3, L1, 0, 0)
  ) else (
    fw_gI 8 L1 j0 23 fun v2 =>
    some (v2, L1, 0, 0)
  )
set_option maxHeartbeats 4000000 in
set_option maxRecDepth 100000 in
theorem w_X5_wonOf_0 {K : Kx} {r9 : Int32} {L9 : LH} (hK : Ok K cX5_wonOf 2 RX5 7 160) (hF : Fin K (some (.int)) (some (aI r9)) L9) {j0 : Nat} {x1 : Int32} {L : LH} {mc ms : Nat} (h : f_X5_wonOf j0 x1 L = some (r9, L9, mc, ms)) : AW K L mc ms 0 [(0, aR (some j0)), (1, aI x1)] [] := by
  unfold f_X5_wonOf at h
  refine aw_aload_n hK 0 dX5_wonOf_0 rfl rfl ?_
  obtain ⟨hj, h⟩ := fw_is_h h
  refine aw_callV_v (n := 0) hK fw_c7 hj (fun _ _ _ _ q => ct_X5_runsTold hK.zk q) (lw_V q1450 q1452 qs56 q102 q1453) (by decide +kernel) (by decide) rfl rfl (Nat.le_of_ble_eq_true rfl) dX5_wonOf_1 h (fun _ L1 _ _ h => ?_)
  refine aw_iload_n hK 1 dX5_wonOf_4 rfl rfl ?_
  refine aw_if_ne (tgt := 15) hK dX5_wonOf_5 (by decide) h (fun h => ?_) (fun h => ?_)
  · refine aw_aload_n hK 0 dX5_wonOf_15 rfl rfl ?_
    refine aw_gI hK fw_c7 23 (by decide) rfl q1216 (fun _ h9 => h9) dX5_wonOf_16 h (fun v2 h => ?_)
    exact aw_iret hK dX5_wonOf_19 h hF
  · refine aw_aload_n hK 0 dX5_wonOf_8 rfl rfl ?_
    refine aw_gI hK fw_c7 22 (by decide) rfl q1215 (fun _ h9 => h9) dX5_wonOf_9 h (fun v3 h => ?_)
    refine aw_goto (tgt := 19) hK dX5_wonOf_12 (by decide) ?_
    exact aw_iret hK dX5_wonOf_19 h hF
theorem ct_X5_wonOf {Z : fw_ZT} (hZ : fw_Zok Z) {j0 : Nat} {x1 : Int32} {L : LH} {r9 : Int32} {L9 : LH} {mc ms : Nat} (h : f_X5_wonOf j0 x1 L = some (r9, L9, mc, ms)) : Ct Z yX5_wonOf (ws_ yX5_wonOf cX5_wonOf 2 (some (.int))) 7 160 [aR (some j0), aI x1] L (some (aI r9)) L9 mc ms :=
  ct_of (own := RX5) hZ (by decide +kernel) rfl (Nat.le_of_ble_eq_true rfl) (fun K _ hK hF hini => w_X5_wonOf_0 hK hF h)
def f_X5_furthestOf_69 (rec9 : Nat → Int32 → Int32 → Int32 → LH → Rs Int32) (j0 : Nat) (x1 : Int32) (x3 : Int32) (sx0 : Int32) (L : LH) : Rs Int32 :=
  rec9 j0 x1 sx0 (x3 + (nI 1)) L
def f_X5_furthestOf_52 (rec9 : Nat → Int32 → Int32 → Int32 → LH → Rs Int32) (j0 : Nat) (x1 : Int32) (x2 : Int32) (x3 : Int32) (sx0 : Int32) (L : LH) : Rs Int32 :=
  if sx0 = 0 then (
    f_X5_furthestOf_69 rec9 j0 x1 x3 x2 L
  ) else (
    fw_gR 8 L j0 29 fun r1 =>
    fw_nn r1 fun j2 =>
    fw_rd 100 L j2 x3 fun v3 =>
    f_X5_furthestOf_69 rec9 j0 x1 x3 v3 L
  )
def f_X5_furthestOf_9 : Nat → Nat → Int32 → Int32 → Int32 → LH → Rs Int32
  | 0, _, _, _, _, _ => none
  | n + 1, j0, x1, x2, x3, L =>
    if (nI 24) ≤ x3 then (
      some (x2, L, 0, 0)
    ) else (
      if x1 = 0 then (
        fw_gR 8 L j0 29 fun r4 =>
        fw_nn r4 fun j5 =>
        fw_rd 100 L j5 x3 fun v6 =>
        if v6 ≤ x2 then (
          f_X5_furthestOf_52 (f_X5_furthestOf_9 n) j0 x1 x2 x3 (nI 0) L
        ) else (
          f_X5_furthestOf_52 (f_X5_furthestOf_9 n) j0 x1 x2 x3 (nI 1) L
        )
      ) else (
        fw_gR 8 L j0 29 fun r1 =>
        fw_nn r1 fun j2 =>
        fw_rd 100 L j2 x3 fun v3 =>
        if x2 ≤ v3 then (
          f_X5_furthestOf_52 (f_X5_furthestOf_9 n) j0 x1 x2 x3 (nI 0) L
        ) else (
          f_X5_furthestOf_52 (f_X5_furthestOf_9 n) j0 x1 x2 x3 (nI 1) L
        )
      )
    )
def f_X5_furthestOf (j0 : Nat) (x1 : Int32) (L : LH) : Rs Int32 :=
  fw_is 8 L j0 <|
  fw_cl (f_X5_runsTold j0 L) fun _ L1 =>
  f_X5_furthestOf_9 fw_fuel j0 x1 (nI 12) (nI 0) L1
set_option maxHeartbeats 4000000 in
set_option maxRecDepth 100000 in
theorem w_X5_furthestOf_69 {K : Kx} {r9 : Int32} {L9 : LH} (hK : Ok K cX5_furthestOf 5 RX5 7 160) (hF : Fin K (some (.int)) (some (aI r9)) L9) {rec9 : Nat → Int32 → Int32 → Int32 → LH → Rs Int32} (hrec9 : ∀ {j0 : Nat} {x1 : Int32} {x2 : Int32} {x3 : Int32} {L : LH} {mc ms : Nat}, rec9 j0 x1 x2 x3 L = some (r9, L9, mc, ms) → AW K L mc ms 9 [(0, aR (some j0)), (1, aI x1), (2, aI x2), (3, aI x3)] []) {j0 : Nat} {x1 : Int32} {x3 : Int32} {sx0 : Int32} {L : LH} {mc ms : Nat} (h : f_X5_furthestOf_69 rec9 j0 x1 x3 sx0 L = some (r9, L9, mc, ms)) : AW K L mc ms 69 [(0, aR (some j0)), (1, aI x1), (3, aI x3)] [aI sx0] := by
  unfold f_X5_furthestOf_69 at h
  refine aw_istore_n (lv' := [(2, aI sx0), (0, aR (some j0)), (1, aI x1), (3, aI x3)]) hK dX5_furthestOf_69 rfl (by decide) rfl ?_
  refine aw_iinc (v := (x3 + (nI 1))) (lv' := [(3, aI (x3 + (nI 1))), (2, aI sx0), (0, aR (some j0)), (1, aI x1)]) hK 3 dX5_furthestOf_70 rfl rfl (by decide) rfl ?_
  refine aw_goto (tgt := 9) hK dX5_furthestOf_73 (by decide) ?_
  exact aw_sub [2, 3, 1, 0] rfl (hrec9 h)
set_option maxHeartbeats 4000000 in
set_option maxRecDepth 100000 in
theorem w_X5_furthestOf_52 {K : Kx} {r9 : Int32} {L9 : LH} (hK : Ok K cX5_furthestOf 5 RX5 7 160) (hF : Fin K (some (.int)) (some (aI r9)) L9) {rec9 : Nat → Int32 → Int32 → Int32 → LH → Rs Int32} (hrec9 : ∀ {j0 : Nat} {x1 : Int32} {x2 : Int32} {x3 : Int32} {L : LH} {mc ms : Nat}, rec9 j0 x1 x2 x3 L = some (r9, L9, mc, ms) → AW K L mc ms 9 [(0, aR (some j0)), (1, aI x1), (2, aI x2), (3, aI x3)] []) {j0 : Nat} {x1 : Int32} {x2 : Int32} {x3 : Int32} {sx0 : Int32} {L : LH} {mc ms : Nat} (h : f_X5_furthestOf_52 rec9 j0 x1 x2 x3 sx0 L = some (r9, L9, mc, ms)) : AW K L mc ms 52 [(0, aR (some j0)), (1, aI x1), (2, aI x2), (3, aI x3)] [aI sx0] := by
  unfold f_X5_furthestOf_52 at h
  refine aw_istore (lv' := [(4, aI sx0), (0, aR (some j0)), (1, aI x1), (2, aI x2), (3, aI x3)]) hK dX5_furthestOf_52 (by decide) rfl ?_
  refine aw_iload hK 0 dX5_furthestOf_54 rfl ?_
  refine aw_if_eq (tgt := 68) hK dX5_furthestOf_56 (by decide) h (fun h => ?_) (fun h => ?_)
  · refine aw_iload_n hK 3 dX5_furthestOf_68 rfl rfl ?_
    exact aw_sub [1, 2, 4] rfl (w_X5_furthestOf_69 hK hF (fun h => hrec9 h) h)
  · refine aw_aload_n hK 1 dX5_furthestOf_59 rfl rfl ?_
    refine aw_gR hK fw_c7 29 (by decide) rfl q1222 (fun _ h9 => h9) dX5_furthestOf_60 h (fun r1 h => ?_)
    refine aw_iload_n hK 4 dX5_furthestOf_63 rfl rfl ?_
    obtain _ | j2 := r1
    · exact (fw_nn_no h).elim
    replace h := fw_nn_so h
    refine aw_iald hK dX5_furthestOf_64 h (fun v3 h => ?_)
    refine aw_goto (tgt := 69) hK dX5_furthestOf_65 (by decide) ?_
    exact aw_sub [1, 2, 4] rfl (w_X5_furthestOf_69 hK hF (fun h => hrec9 h) h)
set_option maxHeartbeats 4000000 in
set_option maxRecDepth 100000 in
theorem w_X5_furthestOf_9 {K : Kx} {r9 : Int32} {L9 : LH} (hK : Ok K cX5_furthestOf 5 RX5 7 160) (hF : Fin K (some (.int)) (some (aI r9)) L9) : ∀ {n : Nat} {j0 : Nat} {x1 : Int32} {x2 : Int32} {x3 : Int32} {L : LH} {mc ms : Nat}, f_X5_furthestOf_9 n j0 x1 x2 x3 L = some (r9, L9, mc, ms) → AW K L mc ms 9 [(0, aR (some j0)), (1, aI x1), (2, aI x2), (3, aI x3)] [] := by
  intro n
  induction n with
  | zero =>
    intro j0 x1 x2 x3 L mc ms h
    have h : (none : Rs Int32) = some (r9, L9, mc, ms) := h
    cases h
  | succ n ih =>
    intro j0 x1 x2 x3 L mc ms h
    unfold f_X5_furthestOf_9 at h
    refine aw_iload_n hK 3 dX5_furthestOf_9 rfl rfl ?_
    refine aw_bipush (v := (nI 24)) hK dX5_furthestOf_10 rfl ?_
    refine aw_icmp_ge (tgt := 76) hK dX5_furthestOf_12 (by decide) h (fun h => ?_) (fun h => ?_)
    · refine aw_iload_n hK 2 dX5_furthestOf_76 rfl rfl ?_
      exact aw_iret hK dX5_furthestOf_77 h hF
    · refine aw_iload_n hK 1 dX5_furthestOf_15 rfl rfl ?_
      refine aw_if_ne (tgt := 37) hK dX5_furthestOf_16 (by decide) h (fun h => ?_) (fun h => ?_)
      · refine aw_aload_n hK 0 dX5_furthestOf_37 rfl rfl ?_
        refine aw_gR hK fw_c7 29 (by decide) rfl q1222 (fun _ h9 => h9) dX5_furthestOf_38 h (fun r1 h => ?_)
        refine aw_iload_n hK 3 dX5_furthestOf_41 rfl rfl ?_
        obtain _ | j2 := r1
        · exact (fw_nn_no h).elim
        replace h := fw_nn_so h
        refine aw_iald hK dX5_furthestOf_42 h (fun v3 h => ?_)
        refine aw_iload_n hK 2 dX5_furthestOf_43 rfl rfl ?_
        refine aw_icmp_ge (tgt := 51) hK dX5_furthestOf_44 (by decide) h (fun h => ?_) (fun h => ?_)
        · refine aw_iconst (v := (nI 0)) hK dX5_furthestOf_51 rfl ?_
          exact w_X5_furthestOf_52 hK hF (fun h => ih h) h
        · refine aw_iconst (v := (nI 1)) hK dX5_furthestOf_47 rfl ?_
          refine aw_goto (tgt := 52) hK dX5_furthestOf_48 (by decide) ?_
          exact w_X5_furthestOf_52 hK hF (fun h => ih h) h
      · refine aw_aload_n hK 0 dX5_furthestOf_19 rfl rfl ?_
        refine aw_gR hK fw_c7 29 (by decide) rfl q1222 (fun _ h9 => h9) dX5_furthestOf_20 h (fun r4 h => ?_)
        refine aw_iload_n hK 3 dX5_furthestOf_23 rfl rfl ?_
        obtain _ | j5 := r4
        · exact (fw_nn_no h).elim
        replace h := fw_nn_so h
        refine aw_iald hK dX5_furthestOf_24 h (fun v6 h => ?_)
        refine aw_iload_n hK 2 dX5_furthestOf_25 rfl rfl ?_
        refine aw_icmp_le (tgt := 33) hK dX5_furthestOf_26 (by decide) h (fun h => ?_) (fun h => ?_)
        · refine aw_iconst (v := (nI 0)) hK dX5_furthestOf_33 rfl ?_
          refine aw_goto (tgt := 52) hK dX5_furthestOf_34 (by decide) ?_
          exact w_X5_furthestOf_52 hK hF (fun h => ih h) h
        · refine aw_iconst (v := (nI 1)) hK dX5_furthestOf_29 rfl ?_
          refine aw_goto (tgt := 52) hK dX5_furthestOf_30 (by decide) ?_
          exact w_X5_furthestOf_52 hK hF (fun h => ih h) h
set_option maxHeartbeats 4000000 in
set_option maxRecDepth 100000 in
theorem w_X5_furthestOf_0 {K : Kx} {r9 : Int32} {L9 : LH} (hK : Ok K cX5_furthestOf 5 RX5 7 160) (hF : Fin K (some (.int)) (some (aI r9)) L9) {j0 : Nat} {x1 : Int32} {L : LH} {mc ms : Nat} (h : f_X5_furthestOf j0 x1 L = some (r9, L9, mc, ms)) : AW K L mc ms 0 [(0, aR (some j0)), (1, aI x1)] [] := by
  unfold f_X5_furthestOf at h
  refine aw_aload_n hK 0 dX5_furthestOf_0 rfl rfl ?_
  obtain ⟨hj, h⟩ := fw_is_h h
  refine aw_callV_v (n := 0) hK fw_c7 hj (fun _ _ _ _ q => ct_X5_runsTold hK.zk q) (lw_V q1450 q1452 qs56 q102 q1453) (by decide +kernel) (by decide) rfl rfl (Nat.le_of_ble_eq_true rfl) dX5_furthestOf_1 h (fun _ L1 _ _ h => ?_)
  refine aw_bipush (v := (nI 12)) hK dX5_furthestOf_4 rfl ?_
  refine aw_istore_n (lv' := [(2, aI (nI 12)), (0, aR (some j0)), (1, aI x1)]) hK dX5_furthestOf_6 rfl (by decide) rfl ?_
  refine aw_iconst (v := (nI 0)) hK dX5_furthestOf_7 rfl ?_
  refine aw_istore_n (lv' := [(3, aI (nI 0)), (2, aI (nI 12)), (0, aR (some j0)), (1, aI x1)]) hK dX5_furthestOf_8 rfl (by decide) rfl ?_
  exact aw_sub [2, 3, 1, 0] rfl (w_X5_furthestOf_9 hK hF h)
theorem ct_X5_furthestOf {Z : fw_ZT} (hZ : fw_Zok Z) {j0 : Nat} {x1 : Int32} {L : LH} {r9 : Int32} {L9 : LH} {mc ms : Nat} (h : f_X5_furthestOf j0 x1 L = some (r9, L9, mc, ms)) : Ct Z yX5_furthestOf (ws_ yX5_furthestOf cX5_furthestOf 5 (some (.int))) 7 160 [aR (some j0), aI x1] L (some (aI r9)) L9 mc ms :=
  ct_of (own := RX5) hZ (by decide +kernel) rfl (Nat.le_of_ble_eq_true rfl) (fun K _ hK hF hini => w_X5_furthestOf_0 hK hF h)
def f_X5_doneOf (j0 : Nat) (x1 : Int32) (L : LH) : Rs Int32 :=
  fw_is 8 L j0 <|
  fw_cl (f_X5_runsTold j0 L) fun _ L1 =>
  fw_gR 8 L1 j0 26 fun r2 =>
  fw_nn r2 fun j3 =>
  fw_rd 100 L1 j3 x1 fun v4 =>
  some (v4, L1, 0, 0)
set_option maxHeartbeats 4000000 in
set_option maxRecDepth 100000 in
theorem w_X5_doneOf_0 {K : Kx} {r9 : Int32} {L9 : LH} (hK : Ok K cX5_doneOf 2 RX5 7 160) (hF : Fin K (some (.int)) (some (aI r9)) L9) {j0 : Nat} {x1 : Int32} {L : LH} {mc ms : Nat} (h : f_X5_doneOf j0 x1 L = some (r9, L9, mc, ms)) : AW K L mc ms 0 [(0, aR (some j0)), (1, aI x1)] [] := by
  unfold f_X5_doneOf at h
  refine aw_aload_n hK 0 dX5_doneOf_0 rfl rfl ?_
  obtain ⟨hj, h⟩ := fw_is_h h
  refine aw_callV_v (n := 0) hK fw_c7 hj (fun _ _ _ _ q => ct_X5_runsTold hK.zk q) (lw_V q1450 q1452 qs56 q102 q1453) (by decide +kernel) (by decide) rfl rfl (Nat.le_of_ble_eq_true rfl) dX5_doneOf_1 h (fun _ L1 _ _ h => ?_)
  refine aw_aload_n hK 0 dX5_doneOf_4 rfl rfl ?_
  refine aw_gR hK fw_c7 26 (by decide) rfl q1219 (fun _ h9 => h9) dX5_doneOf_5 h (fun r2 h => ?_)
  refine aw_iload_n hK 1 dX5_doneOf_8 rfl rfl ?_
  obtain _ | j3 := r2
  · exact (fw_nn_no h).elim
  replace h := fw_nn_so h
  refine aw_iald hK dX5_doneOf_9 h (fun v4 h => ?_)
  exact aw_iret hK dX5_doneOf_10 h hF
theorem ct_X5_doneOf {Z : fw_ZT} (hZ : fw_Zok Z) {j0 : Nat} {x1 : Int32} {L : LH} {r9 : Int32} {L9 : LH} {mc ms : Nat} (h : f_X5_doneOf j0 x1 L = some (r9, L9, mc, ms)) : Ct Z yX5_doneOf (ws_ yX5_doneOf cX5_doneOf 2 (some (.int))) 7 160 [aR (some j0), aI x1] L (some (aI r9)) L9 mc ms :=
  ct_of (own := RX5) hZ (by decide +kernel) rfl (Nat.le_of_ble_eq_true rfl) (fun K _ hK hF hini => w_X5_doneOf_0 hK hF h)
def f_X5_spentOf_39 (rec8 : Nat → Int32 → Int32 → LH → Rs Int32) (j0 : Nat) (x2 : Int32) (sx0 : Int32) (sx1 : Int32) (L : LH) : Rs Int32 :=
  rec8 j0 (sx1 ||| sx0) (x2 + (nI 1)) L
def f_X5_spentOf_38 (rec8 : Nat → Int32 → Int32 → LH → Rs Int32) (j0 : Nat) (x2 : Int32) (sx0 : Int32) (L : LH) : Rs Int32 :=
  f_X5_spentOf_39 rec8 j0 x2 (nI 0) sx0 L
def f_X5_spentOf_8 : Nat → Nat → Int32 → Int32 → LH → Rs Int32
  | 0, _, _, _, _ => none
  | n + 1, j0, x1, x2, L =>
    if (nI 16) ≤ x2 then (
      some (x1, L, 0, 0)
    ) else (
      fw_is 8 L j0 <|
      fw_cl (f_X5_isThereOne j0 x2 L) fun v2 L1 =>
      if v2 = 0 then (
        f_X5_spentOf_38 (f_X5_spentOf_8 n) j0 x2 x1 L1
      ) else (
        fw_gR 8 L1 j0 25 fun r3 =>
        fw_nn r3 fun j4 =>
        fw_rd 100 L1 j4 x2 fun v5 =>
        if v5 = 0 then (
          f_X5_spentOf_39 (f_X5_spentOf_8 n) j0 x2 ((nI 1) <<< (x2 &&& 31)) x1 L1
        ) else (
          f_X5_spentOf_38 (f_X5_spentOf_8 n) j0 x2 x1 L1
        )
      )
    )
def f_X5_spentOf (j0 : Nat) (L : LH) : Rs Int32 :=
  fw_is 8 L j0 <|
  fw_cl (f_X5_runsTold j0 L) fun _ L1 =>
  f_X5_spentOf_8 fw_fuel j0 (nI 0) (nI 0) L1
set_option maxHeartbeats 4000000 in
set_option maxRecDepth 100000 in
theorem w_X5_spentOf_39 {K : Kx} {r9 : Int32} {L9 : LH} (hK : Ok K cX5_spentOf 3 RX5 7 160) (hF : Fin K (some (.int)) (some (aI r9)) L9) {rec8 : Nat → Int32 → Int32 → LH → Rs Int32} (hrec8 : ∀ {j0 : Nat} {x1 : Int32} {x2 : Int32} {L : LH} {mc ms : Nat}, rec8 j0 x1 x2 L = some (r9, L9, mc, ms) → AW K L mc ms 8 [(0, aR (some j0)), (1, aI x1), (2, aI x2)] []) {j0 : Nat} {x2 : Int32} {sx0 : Int32} {sx1 : Int32} {L : LH} {mc ms : Nat} (h : f_X5_spentOf_39 rec8 j0 x2 sx0 sx1 L = some (r9, L9, mc, ms)) : AW K L mc ms 39 [(0, aR (some j0)), (2, aI x2)] [aI sx0, aI sx1] := by
  unfold f_X5_spentOf_39 at h
  refine aw_ior hK dX5_spentOf_39 ?_
  refine aw_istore_n (lv' := [(1, aI (sx1 ||| sx0)), (0, aR (some j0)), (2, aI x2)]) hK dX5_spentOf_40 rfl (by decide) rfl ?_
  refine aw_iinc (v := (x2 + (nI 1))) (lv' := [(2, aI (x2 + (nI 1))), (1, aI (sx1 ||| sx0)), (0, aR (some j0))]) hK 2 dX5_spentOf_41 rfl rfl (by decide) rfl ?_
  refine aw_goto (tgt := 8) hK dX5_spentOf_44 (by decide) ?_
  exact aw_sub [2, 1, 0] rfl (hrec8 h)
set_option maxHeartbeats 4000000 in
set_option maxRecDepth 100000 in
theorem w_X5_spentOf_38 {K : Kx} {r9 : Int32} {L9 : LH} (hK : Ok K cX5_spentOf 3 RX5 7 160) (hF : Fin K (some (.int)) (some (aI r9)) L9) {rec8 : Nat → Int32 → Int32 → LH → Rs Int32} (hrec8 : ∀ {j0 : Nat} {x1 : Int32} {x2 : Int32} {L : LH} {mc ms : Nat}, rec8 j0 x1 x2 L = some (r9, L9, mc, ms) → AW K L mc ms 8 [(0, aR (some j0)), (1, aI x1), (2, aI x2)] []) {j0 : Nat} {x2 : Int32} {sx0 : Int32} {L : LH} {mc ms : Nat} (h : f_X5_spentOf_38 rec8 j0 x2 sx0 L = some (r9, L9, mc, ms)) : AW K L mc ms 38 [(0, aR (some j0)), (2, aI x2)] [aI sx0] := by
  unfold f_X5_spentOf_38 at h
  refine aw_iconst (v := (nI 0)) hK dX5_spentOf_38 rfl ?_
  exact w_X5_spentOf_39 hK hF (fun h => hrec8 h) h
set_option maxHeartbeats 4000000 in
set_option maxRecDepth 100000 in
theorem w_X5_spentOf_8 {K : Kx} {r9 : Int32} {L9 : LH} (hK : Ok K cX5_spentOf 3 RX5 7 160) (hF : Fin K (some (.int)) (some (aI r9)) L9) : ∀ {n : Nat} {j0 : Nat} {x1 : Int32} {x2 : Int32} {L : LH} {mc ms : Nat}, f_X5_spentOf_8 n j0 x1 x2 L = some (r9, L9, mc, ms) → AW K L mc ms 8 [(0, aR (some j0)), (1, aI x1), (2, aI x2)] [] := by
  intro n
  induction n with
  | zero =>
    intro j0 x1 x2 L mc ms h
    have h : (none : Rs Int32) = some (r9, L9, mc, ms) := h
    cases h
  | succ n ih =>
    intro j0 x1 x2 L mc ms h
    unfold f_X5_spentOf_8 at h
    refine aw_iload_n hK 2 dX5_spentOf_8 rfl rfl ?_
    refine aw_bipush (v := (nI 16)) hK dX5_spentOf_9 rfl ?_
    refine aw_icmp_ge (tgt := 47) hK dX5_spentOf_11 (by decide) h (fun h => ?_) (fun h => ?_)
    · refine aw_iload_n hK 1 dX5_spentOf_47 rfl rfl ?_
      exact aw_iret hK dX5_spentOf_48 h hF
    · refine aw_iload_n hK 1 dX5_spentOf_14 rfl rfl ?_
      refine aw_aload_n hK 0 dX5_spentOf_15 rfl rfl ?_
      refine aw_iload_n hK 2 dX5_spentOf_16 rfl rfl ?_
      obtain ⟨hj, h⟩ := fw_is_h h
      refine aw_callV_i (n := 1) hK fw_c7 hj (fun _ _ _ _ q => ct_X5_isThereOne hK.zk q) (lw_V q1393 q1395 qs51 q102 q1396) (by decide +kernel) (by decide) rfl rfl (Nat.le_of_ble_eq_true rfl) dX5_spentOf_17 h (fun v2 L1 _ _ h => ?_)
      refine aw_if_eq (tgt := 38) hK dX5_spentOf_20 (by decide) h (fun h => ?_) (fun h => ?_)
      · exact aw_sub [0, 2] rfl (w_X5_spentOf_38 hK hF (fun h => ih h) h)
      · refine aw_aload_n hK 0 dX5_spentOf_23 rfl rfl ?_
        refine aw_gR hK fw_c7 25 (by decide) rfl q1218 (fun _ h9 => h9) dX5_spentOf_24 h (fun r3 h => ?_)
        refine aw_iload_n hK 2 dX5_spentOf_27 rfl rfl ?_
        obtain _ | j4 := r3
        · exact (fw_nn_no h).elim
        replace h := fw_nn_so h
        refine aw_iald hK dX5_spentOf_28 h (fun v5 h => ?_)
        refine aw_if_ne (tgt := 38) hK dX5_spentOf_29 (by decide) h (fun h => ?_) (fun h => ?_)
        · exact aw_sub [0, 2] rfl (w_X5_spentOf_38 hK hF (fun h => ih h) h)
        · refine aw_iconst (v := (nI 1)) hK dX5_spentOf_32 rfl ?_
          refine aw_iload_n hK 2 dX5_spentOf_33 rfl rfl ?_
          refine aw_ishl hK dX5_spentOf_34 ?_
          refine aw_goto (tgt := 39) hK dX5_spentOf_35 (by decide) ?_
          exact aw_sub [0, 2] rfl (w_X5_spentOf_39 hK hF (fun h => ih h) h)
set_option maxHeartbeats 4000000 in
set_option maxRecDepth 100000 in
theorem w_X5_spentOf_0 {K : Kx} {r9 : Int32} {L9 : LH} (hK : Ok K cX5_spentOf 3 RX5 7 160) (hF : Fin K (some (.int)) (some (aI r9)) L9) {j0 : Nat} {L : LH} {mc ms : Nat} (h : f_X5_spentOf j0 L = some (r9, L9, mc, ms)) : AW K L mc ms 0 [(0, aR (some j0))] [] := by
  unfold f_X5_spentOf at h
  refine aw_aload_n hK 0 dX5_spentOf_0 rfl rfl ?_
  obtain ⟨hj, h⟩ := fw_is_h h
  refine aw_callV_v (n := 0) hK fw_c7 hj (fun _ _ _ _ q => ct_X5_runsTold hK.zk q) (lw_V q1450 q1452 qs56 q102 q1453) (by decide +kernel) (by decide) rfl rfl (Nat.le_of_ble_eq_true rfl) dX5_spentOf_1 h (fun _ L1 _ _ h => ?_)
  refine aw_iconst (v := (nI 0)) hK dX5_spentOf_4 rfl ?_
  refine aw_istore_n (lv' := [(1, aI (nI 0)), (0, aR (some j0))]) hK dX5_spentOf_5 rfl (by decide) rfl ?_
  refine aw_iconst (v := (nI 0)) hK dX5_spentOf_6 rfl ?_
  refine aw_istore_n (lv' := [(2, aI (nI 0)), (1, aI (nI 0)), (0, aR (some j0))]) hK dX5_spentOf_7 rfl (by decide) rfl ?_
  exact aw_sub [2, 1, 0] rfl (w_X5_spentOf_8 hK hF h)
theorem ct_X5_spentOf {Z : fw_ZT} (hZ : fw_Zok Z) {j0 : Nat} {L : LH} {r9 : Int32} {L9 : LH} {mc ms : Nat} (h : f_X5_spentOf j0 L = some (r9, L9, mc, ms)) : Ct Z yX5_spentOf (ws_ yX5_spentOf cX5_spentOf 3 (some (.int))) 7 160 [aR (some j0)] L (some (aI r9)) L9 mc ms :=
  ct_of (own := RX5) hZ (by decide +kernel) rfl (Nat.le_of_ble_eq_true rfl) (fun K _ hK hF hini => w_X5_spentOf_0 hK hF h)
def f_X5_bestOf_52 (rec10 : Nat → Int32 → Int32 → Int32 → LH → Rs Int32) (j0 : Nat) (x1 : Int32) (x3 : Int32) (sx0 : Int32) (L : LH) : Rs Int32 :=
  rec10 j0 x1 sx0 (x3 + (nI 1)) L
def f_X5_bestOf_31 (rec10 : Nat → Int32 → Int32 → Int32 → LH → Rs Int32) (j0 : Nat) (x2 : Int32) (x3 : Int32) (sx0 : Int32) (L : LH) : Rs Int32 :=
  fw_gR 8 L j0 26 fun r1 =>
  fw_nn r1 fun j2 =>
  fw_rd 100 L j2 x3 fun v3 =>
  if v3 ≤ x2 then (
    f_X5_bestOf_52 rec10 j0 sx0 x3 x2 L
  ) else (
    fw_gR 8 L j0 26 fun r4 =>
    fw_nn r4 fun j5 =>
    fw_rd 100 L j5 x3 fun v6 =>
    f_X5_bestOf_52 rec10 j0 sx0 x3 v6 L
  )
def f_X5_bestOf_10 : Nat → Nat → Int32 → Int32 → Int32 → LH → Rs Int32
  | 0, _, _, _, _, _ => none
  | n + 1, j0, x1, x2, x3, L =>
    if (nI 16) ≤ x3 then (
      some (x1, L, 0, 0)
    ) else (
      fw_gR 8 L j0 26 fun r1 =>
      fw_nn r1 fun j2 =>
      fw_rd 100 L j2 x3 fun v3 =>
      if v3 ≤ x2 then (
        f_X5_bestOf_31 (f_X5_bestOf_10 n) j0 x2 x3 x1 L
      ) else (
        f_X5_bestOf_31 (f_X5_bestOf_10 n) j0 x2 x3 x3 L
      )
    )
def f_X5_bestOf (j0 : Nat) (L : LH) : Rs Int32 :=
  fw_is 8 L j0 <|
  fw_cl (f_X5_runsTold j0 L) fun _ L1 =>
  f_X5_bestOf_10 fw_fuel j0 (-nI 1) (nI 0) (nI 0) L1
set_option maxHeartbeats 4000000 in
set_option maxRecDepth 100000 in
theorem w_X5_bestOf_52 {K : Kx} {r9 : Int32} {L9 : LH} (hK : Ok K cX5_bestOf 4 RX5 7 160) (hF : Fin K (some (.int)) (some (aI r9)) L9) {rec10 : Nat → Int32 → Int32 → Int32 → LH → Rs Int32} (hrec10 : ∀ {j0 : Nat} {x1 : Int32} {x2 : Int32} {x3 : Int32} {L : LH} {mc ms : Nat}, rec10 j0 x1 x2 x3 L = some (r9, L9, mc, ms) → AW K L mc ms 10 [(0, aR (some j0)), (1, aI x1), (2, aI x2), (3, aI x3)] []) {j0 : Nat} {x1 : Int32} {x3 : Int32} {sx0 : Int32} {L : LH} {mc ms : Nat} (h : f_X5_bestOf_52 rec10 j0 x1 x3 sx0 L = some (r9, L9, mc, ms)) : AW K L mc ms 52 [(0, aR (some j0)), (1, aI x1), (3, aI x3)] [aI sx0] := by
  unfold f_X5_bestOf_52 at h
  refine aw_istore_n (lv' := [(2, aI sx0), (0, aR (some j0)), (1, aI x1), (3, aI x3)]) hK dX5_bestOf_52 rfl (by decide) rfl ?_
  refine aw_iinc (v := (x3 + (nI 1))) (lv' := [(3, aI (x3 + (nI 1))), (2, aI sx0), (0, aR (some j0)), (1, aI x1)]) hK 3 dX5_bestOf_53 rfl rfl (by decide) rfl ?_
  refine aw_goto (tgt := 10) hK dX5_bestOf_56 (by decide) ?_
  exact aw_sub [2, 3, 1, 0] rfl (hrec10 h)
set_option maxHeartbeats 4000000 in
set_option maxRecDepth 100000 in
theorem w_X5_bestOf_31 {K : Kx} {r9 : Int32} {L9 : LH} (hK : Ok K cX5_bestOf 4 RX5 7 160) (hF : Fin K (some (.int)) (some (aI r9)) L9) {rec10 : Nat → Int32 → Int32 → Int32 → LH → Rs Int32} (hrec10 : ∀ {j0 : Nat} {x1 : Int32} {x2 : Int32} {x3 : Int32} {L : LH} {mc ms : Nat}, rec10 j0 x1 x2 x3 L = some (r9, L9, mc, ms) → AW K L mc ms 10 [(0, aR (some j0)), (1, aI x1), (2, aI x2), (3, aI x3)] []) {j0 : Nat} {x2 : Int32} {x3 : Int32} {sx0 : Int32} {L : LH} {mc ms : Nat} (h : f_X5_bestOf_31 rec10 j0 x2 x3 sx0 L = some (r9, L9, mc, ms)) : AW K L mc ms 31 [(0, aR (some j0)), (2, aI x2), (3, aI x3)] [aI sx0] := by
  unfold f_X5_bestOf_31 at h
  refine aw_istore_n (lv' := [(1, aI sx0), (0, aR (some j0)), (2, aI x2), (3, aI x3)]) hK dX5_bestOf_31 rfl (by decide) rfl ?_
  refine aw_aload_n hK 1 dX5_bestOf_32 rfl rfl ?_
  refine aw_gR hK fw_c7 26 (by decide) rfl q1219 (fun _ h9 => h9) dX5_bestOf_33 h (fun r1 h => ?_)
  refine aw_iload_n hK 3 dX5_bestOf_36 rfl rfl ?_
  obtain _ | j2 := r1
  · exact (fw_nn_no h).elim
  replace h := fw_nn_so h
  refine aw_iald hK dX5_bestOf_37 h (fun v3 h => ?_)
  refine aw_iload_n hK 2 dX5_bestOf_38 rfl rfl ?_
  refine aw_icmp_le (tgt := 51) hK dX5_bestOf_39 (by decide) h (fun h => ?_) (fun h => ?_)
  · refine aw_iload_n hK 2 dX5_bestOf_51 rfl rfl ?_
    exact aw_sub [1, 0, 3] rfl (w_X5_bestOf_52 hK hF (fun h => hrec10 h) h)
  · refine aw_aload_n hK 1 dX5_bestOf_42 rfl rfl ?_
    refine aw_gR hK fw_c7 26 (by decide) rfl q1219 (fun _ h9 => h9) dX5_bestOf_43 h (fun r4 h => ?_)
    refine aw_iload_n hK 3 dX5_bestOf_46 rfl rfl ?_
    obtain _ | j5 := r4
    · exact (fw_nn_no h).elim
    replace h := fw_nn_so h
    refine aw_iald hK dX5_bestOf_47 h (fun v6 h => ?_)
    refine aw_goto (tgt := 52) hK dX5_bestOf_48 (by decide) ?_
    exact aw_sub [1, 0, 3] rfl (w_X5_bestOf_52 hK hF (fun h => hrec10 h) h)
set_option maxHeartbeats 4000000 in
set_option maxRecDepth 100000 in
theorem w_X5_bestOf_10 {K : Kx} {r9 : Int32} {L9 : LH} (hK : Ok K cX5_bestOf 4 RX5 7 160) (hF : Fin K (some (.int)) (some (aI r9)) L9) : ∀ {n : Nat} {j0 : Nat} {x1 : Int32} {x2 : Int32} {x3 : Int32} {L : LH} {mc ms : Nat}, f_X5_bestOf_10 n j0 x1 x2 x3 L = some (r9, L9, mc, ms) → AW K L mc ms 10 [(0, aR (some j0)), (1, aI x1), (2, aI x2), (3, aI x3)] [] := by
  intro n
  induction n with
  | zero =>
    intro j0 x1 x2 x3 L mc ms h
    have h : (none : Rs Int32) = some (r9, L9, mc, ms) := h
    cases h
  | succ n ih =>
    intro j0 x1 x2 x3 L mc ms h
    unfold f_X5_bestOf_10 at h
    refine aw_iload_n hK 3 dX5_bestOf_10 rfl rfl ?_
    refine aw_bipush (v := (nI 16)) hK dX5_bestOf_11 rfl ?_
    refine aw_icmp_ge (tgt := 59) hK dX5_bestOf_13 (by decide) h (fun h => ?_) (fun h => ?_)
    · refine aw_iload_n hK 1 dX5_bestOf_59 rfl rfl ?_
      exact aw_iret hK dX5_bestOf_60 h hF
    · refine aw_aload_n hK 0 dX5_bestOf_16 rfl rfl ?_
      refine aw_gR hK fw_c7 26 (by decide) rfl q1219 (fun _ h9 => h9) dX5_bestOf_17 h (fun r1 h => ?_)
      refine aw_iload_n hK 3 dX5_bestOf_20 rfl rfl ?_
      obtain _ | j2 := r1
      · exact (fw_nn_no h).elim
      replace h := fw_nn_so h
      refine aw_iald hK dX5_bestOf_21 h (fun v3 h => ?_)
      refine aw_iload_n hK 2 dX5_bestOf_22 rfl rfl ?_
      refine aw_icmp_le (tgt := 30) hK dX5_bestOf_23 (by decide) h (fun h => ?_) (fun h => ?_)
      · refine aw_iload_n hK 1 dX5_bestOf_30 rfl rfl ?_
        exact aw_sub [0, 2, 3] rfl (w_X5_bestOf_31 hK hF (fun h => ih h) h)
      · refine aw_iload_n hK 3 dX5_bestOf_26 rfl rfl ?_
        refine aw_goto (tgt := 31) hK dX5_bestOf_27 (by decide) ?_
        exact aw_sub [0, 2, 3] rfl (w_X5_bestOf_31 hK hF (fun h => ih h) h)
set_option maxHeartbeats 4000000 in
set_option maxRecDepth 100000 in
theorem w_X5_bestOf_0 {K : Kx} {r9 : Int32} {L9 : LH} (hK : Ok K cX5_bestOf 4 RX5 7 160) (hF : Fin K (some (.int)) (some (aI r9)) L9) {j0 : Nat} {L : LH} {mc ms : Nat} (h : f_X5_bestOf j0 L = some (r9, L9, mc, ms)) : AW K L mc ms 0 [(0, aR (some j0))] [] := by
  unfold f_X5_bestOf at h
  refine aw_aload_n hK 0 dX5_bestOf_0 rfl rfl ?_
  obtain ⟨hj, h⟩ := fw_is_h h
  refine aw_callV_v (n := 0) hK fw_c7 hj (fun _ _ _ _ q => ct_X5_runsTold hK.zk q) (lw_V q1450 q1452 qs56 q102 q1453) (by decide +kernel) (by decide) rfl rfl (Nat.le_of_ble_eq_true rfl) dX5_bestOf_1 h (fun _ L1 _ _ h => ?_)
  refine aw_iconst (v := (-nI 1)) hK dX5_bestOf_4 rfl ?_
  refine aw_istore_n (lv' := [(1, aI (-nI 1)), (0, aR (some j0))]) hK dX5_bestOf_5 rfl (by decide) rfl ?_
  refine aw_iconst (v := (nI 0)) hK dX5_bestOf_6 rfl ?_
  refine aw_istore_n (lv' := [(2, aI (nI 0)), (1, aI (-nI 1)), (0, aR (some j0))]) hK dX5_bestOf_7 rfl (by decide) rfl ?_
  refine aw_iconst (v := (nI 0)) hK dX5_bestOf_8 rfl ?_
  refine aw_istore_n (lv' := [(3, aI (nI 0)), (2, aI (nI 0)), (1, aI (-nI 1)), (0, aR (some j0))]) hK dX5_bestOf_9 rfl (by decide) rfl ?_
  exact aw_sub [3, 2, 1, 0] rfl (w_X5_bestOf_10 hK hF h)
theorem ct_X5_bestOf {Z : fw_ZT} (hZ : fw_Zok Z) {j0 : Nat} {L : LH} {r9 : Int32} {L9 : LH} {mc ms : Nat} (h : f_X5_bestOf j0 L = some (r9, L9, mc, ms)) : Ct Z yX5_bestOf (ws_ yX5_bestOf cX5_bestOf 4 (some (.int))) 7 160 [aR (some j0)] L (some (aI r9)) L9 mc ms :=
  ct_of (own := RX5) hZ (by decide +kernel) rfl (Nat.le_of_ble_eq_true rfl) (fun K _ hK hF hini => w_X5_bestOf_0 hK hF h)
def f_X5_levelOf (j0 : Nat) (L : LH) : Rs Int32 :=
  fw_is 8 L j0 <|
  fw_cl (f_X5_runsTold j0 L) fun _ L1 =>
  fw_gI 8 L1 j0 24 fun v2 =>
  some (v2, L1, 0, 0)
set_option maxHeartbeats 4000000 in
set_option maxRecDepth 100000 in
theorem w_X5_levelOf_0 {K : Kx} {r9 : Int32} {L9 : LH} (hK : Ok K cX5_levelOf 1 RX5 7 160) (hF : Fin K (some (.int)) (some (aI r9)) L9) {j0 : Nat} {L : LH} {mc ms : Nat} (h : f_X5_levelOf j0 L = some (r9, L9, mc, ms)) : AW K L mc ms 0 [(0, aR (some j0))] [] := by
  unfold f_X5_levelOf at h
  refine aw_aload_n hK 0 dX5_levelOf_0 rfl rfl ?_
  obtain ⟨hj, h⟩ := fw_is_h h
  refine aw_callV_v (n := 0) hK fw_c7 hj (fun _ _ _ _ q => ct_X5_runsTold hK.zk q) (lw_V q1450 q1452 qs56 q102 q1453) (by decide +kernel) (by decide) rfl rfl (Nat.le_of_ble_eq_true rfl) dX5_levelOf_1 h (fun _ L1 _ _ h => ?_)
  refine aw_aload_n hK 0 dX5_levelOf_4 rfl rfl ?_
  refine aw_gI hK fw_c7 24 (by decide) rfl q1217 (fun _ h9 => h9) dX5_levelOf_5 h (fun v2 h => ?_)
  exact aw_iret hK dX5_levelOf_8 h hF
theorem ct_X5_levelOf {Z : fw_ZT} (hZ : fw_Zok Z) {j0 : Nat} {L : LH} {r9 : Int32} {L9 : LH} {mc ms : Nat} (h : f_X5_levelOf j0 L = some (r9, L9, mc, ms)) : Ct Z yX5_levelOf (ws_ yX5_levelOf cX5_levelOf 1 (some (.int))) 7 160 [aR (some j0)] L (some (aI r9)) L9 mc ms :=
  ct_of (own := RX5) hZ (by decide +kernel) rfl (Nat.le_of_ble_eq_true rfl) (fun K _ hK hF hini => w_X5_levelOf_0 hK hF h)
def f_X5_betterOf_7 : Nat → Nat → Int32 → Int32 → Int32 → Int32 → LH → Rs Int32
  | 0, _, _, _, _, _, _ => none
  | n + 1, j0, x1, x2, x3, x4, L =>
    if (nI 3) ≤ x4 then (
      if x3 = 0 then (
        fw_gI 8 L j0 34 fun v2 =>
        some (v2, L, 0, 0)
      ) else (
        fw_gI 8 L j0 35 fun v1 =>
        some (v1, L, 0, 0)
      )
    ) else (
      fw_gR 8 L j0 13 fun r3 =>
      fw_nn r3 fun j4 =>
      fw_wr 100 L j4 (((nI 24) * x1) + x2) x4 fun L5 =>
      fw_is 8 L5 j0 <|
      fw_cl (f_X5_tries j0 x4 x1 L5) fun _ L6 =>
      f_X5_betterOf_7 n j0 x1 x2 x3 (x4 + (nI 1)) L6
    )
def f_X5_betterOf (j0 : Nat) (x1 : Int32) (x2 : Int32) (x3 : Int32) (L : LH) : Rs Int32 :=
  fw_is 8 L j0 <|
  fw_cl (f_X5_starts j0 L) fun _ L1 =>
  f_X5_betterOf_7 fw_fuel j0 x1 x2 x3 (nI 0) L1
set_option maxHeartbeats 4000000 in
set_option maxRecDepth 100000 in
theorem w_X5_betterOf_7 {K : Kx} {r9 : Int32} {L9 : LH} (hK : Ok K cX5_betterOf 5 RX5 7 160) (hF : Fin K (some (.int)) (some (aI r9)) L9) : ∀ {n : Nat} {j0 : Nat} {x1 : Int32} {x2 : Int32} {x3 : Int32} {x4 : Int32} {L : LH} {mc ms : Nat}, f_X5_betterOf_7 n j0 x1 x2 x3 x4 L = some (r9, L9, mc, ms) → AW K L mc ms 7 [(0, aR (some j0)), (1, aI x1), (2, aI x2), (3, aI x3), (4, aI x4)] [] := by
  intro n
  induction n with
  | zero =>
    intro j0 x1 x2 x3 x4 L mc ms h
    have h : (none : Rs Int32) = some (r9, L9, mc, ms) := h
    cases h
  | succ n ih =>
    intro j0 x1 x2 x3 x4 L mc ms h
    unfold f_X5_betterOf_7 at h
    refine aw_iload hK 4 dX5_betterOf_7 rfl ?_
    refine aw_iconst (v := (nI 3)) hK dX5_betterOf_9 rfl ?_
    refine aw_icmp_ge (tgt := 39) hK dX5_betterOf_10 (by decide) h (fun h => ?_) (fun h => ?_)
    · refine aw_iload_n hK 3 dX5_betterOf_39 rfl rfl ?_
      refine aw_if_ne (tgt := 50) hK dX5_betterOf_40 (by decide) h (fun h => ?_) (fun h => ?_)
      · refine aw_aload_n hK 0 dX5_betterOf_50 rfl rfl ?_
        refine aw_gI hK fw_c7 35 (by decide) rfl q1228 (fun _ h9 => h9) dX5_betterOf_51 h (fun v1 h => ?_)
        exact aw_iret hK dX5_betterOf_54 h hF
      · refine aw_aload_n hK 0 dX5_betterOf_43 rfl rfl ?_
        refine aw_gI hK fw_c7 34 (by decide) rfl q1227 (fun _ h9 => h9) dX5_betterOf_44 h (fun v2 h => ?_)
        refine aw_goto (tgt := 54) hK dX5_betterOf_47 (by decide) ?_
        exact aw_iret hK dX5_betterOf_54 h hF
    · refine aw_aload_n hK 0 dX5_betterOf_13 rfl rfl ?_
      refine aw_gR hK fw_c7 13 (by decide) rfl q1206 (fun _ h9 => h9) dX5_betterOf_14 h (fun r3 h => ?_)
      refine aw_bipush (v := (nI 24)) hK dX5_betterOf_17 rfl ?_
      refine aw_iload_n hK 1 dX5_betterOf_19 rfl rfl ?_
      refine aw_imul hK dX5_betterOf_20 ?_
      refine aw_iload_n hK 2 dX5_betterOf_21 rfl rfl ?_
      refine aw_iadd hK dX5_betterOf_22 ?_
      refine aw_iload hK 4 dX5_betterOf_23 rfl ?_
      obtain _ | j4 := r3
      · exact (fw_nn_no h).elim
      replace h := fw_nn_so h
      refine aw_iast hK dX5_betterOf_25 h (fun L5 h => ?_)
      refine aw_aload_n hK 0 dX5_betterOf_26 rfl rfl ?_
      refine aw_iload hK 4 dX5_betterOf_27 rfl ?_
      refine aw_iload_n hK 1 dX5_betterOf_29 rfl rfl ?_
      obtain ⟨hj, h⟩ := fw_is_h h
      refine aw_callV_v (n := 2) hK fw_c7 hj (fun _ _ _ _ q => ct_X5_tries hK.zk q) (lw_V q1557 q1559 qs74 q102 q1560) (by decide +kernel) (by decide) rfl rfl (Nat.le_of_ble_eq_true rfl) dX5_betterOf_30 h (fun _ L6 _ _ h => ?_)
      refine aw_iinc (v := (x4 + (nI 1))) (lv' := [(4, aI (x4 + (nI 1))), (0, aR (some j0)), (1, aI x1), (2, aI x2), (3, aI x3)]) hK 4 dX5_betterOf_33 rfl rfl (by decide) rfl ?_
      refine aw_goto (tgt := 7) hK dX5_betterOf_36 (by decide) ?_
      exact aw_sub [1, 2, 3, 4, 0] rfl (ih h)
set_option maxHeartbeats 4000000 in
set_option maxRecDepth 100000 in
theorem w_X5_betterOf_0 {K : Kx} {r9 : Int32} {L9 : LH} (hK : Ok K cX5_betterOf 5 RX5 7 160) (hF : Fin K (some (.int)) (some (aI r9)) L9) {j0 : Nat} {x1 : Int32} {x2 : Int32} {x3 : Int32} {L : LH} {mc ms : Nat} (h : f_X5_betterOf j0 x1 x2 x3 L = some (r9, L9, mc, ms)) : AW K L mc ms 0 [(0, aR (some j0)), (1, aI x1), (2, aI x2), (3, aI x3)] [] := by
  unfold f_X5_betterOf at h
  refine aw_aload_n hK 0 dX5_betterOf_0 rfl rfl ?_
  obtain ⟨hj, h⟩ := fw_is_h h
  refine aw_callV_v (n := 0) hK fw_c7 hj (fun _ _ _ _ q => ct_X5_starts hK.zk q) (lw_V q1553 q1555 qs73 q102 q1556) (by decide +kernel) (by decide) rfl rfl (Nat.le_of_ble_eq_true rfl) dX5_betterOf_1 h (fun _ L1 _ _ h => ?_)
  refine aw_iconst (v := (nI 0)) hK dX5_betterOf_4 rfl ?_
  refine aw_istore (lv' := [(4, aI (nI 0)), (0, aR (some j0)), (1, aI x1), (2, aI x2), (3, aI x3)]) hK dX5_betterOf_5 (by decide) rfl ?_
  exact aw_sub [1, 2, 3, 4, 0] rfl (w_X5_betterOf_7 hK hF h)
theorem ct_X5_betterOf {Z : fw_ZT} (hZ : fw_Zok Z) {j0 : Nat} {x1 : Int32} {x2 : Int32} {x3 : Int32} {L : LH} {r9 : Int32} {L9 : LH} {mc ms : Nat} (h : f_X5_betterOf j0 x1 x2 x3 L = some (r9, L9, mc, ms)) : Ct Z yX5_betterOf (ws_ yX5_betterOf cX5_betterOf 5 (some (.int))) 7 160 [aR (some j0), aI x1, aI x2, aI x3] L (some (aI r9)) L9 mc ms :=
  ct_of (own := RX5) hZ (by decide +kernel) rfl (Nat.le_of_ble_eq_true rfl) (fun K _ hK hF hini => w_X5_betterOf_0 hK hF h)
def f_X5_swap (j0 : Nat) (x1 : Int32) (x2 : Int32) (L : LH) : Rs Int32 :=
  fw_cl (f_X5_isTwo x1 L) fun v2 L1 =>
  if v2 = 0 then (
    some ((-nI 2), L1, 0, 0)
  ) else (
    fw_cl (f_X5_isThree x2 L1) fun v4 L3 =>
    if v4 = 0 then (
      some ((-nI 2), L3, 0, 0)
    ) else (
      fw_is 8 L3 j0 <|
      fw_cl (f_X5_swapOf j0 x1 x2 L3) fun v6 L5 =>
      some (v6, L5, 0, 0)
    )
  )
set_option maxHeartbeats 4000000 in
set_option maxRecDepth 100000 in
theorem w_X5_swap_0 {K : Kx} {r9 : Int32} {L9 : LH} (hK : Ok K cX5_swap 3 RX5 8 185) (hF : Fin K (some (.int)) (some (aI r9)) L9) {j0 : Nat} {x1 : Int32} {x2 : Int32} {L : LH} {mc ms : Nat} (h : f_X5_swap j0 x1 x2 L = some (r9, L9, mc, ms)) : AW K L mc ms 0 [(0, aR (some j0)), (1, aI x1), (2, aI x2)] [] := by
  unfold f_X5_swap at h
  refine aw_iload_n hK 1 dX5_swap_0 rfl rfl ?_
  refine aw_callS_i (n := 1) hK (fun _ _ _ _ q => ct_X5_isTwo hK.zk q) (lw_S q1408 q1409 q102 q1410) (by decide +kernel) (by decide) rfl rfl (Nat.le_of_ble_eq_true rfl) dX5_swap_1 h (fun v2 L1 _ _ h => ?_)
  refine aw_if_eq (tgt := 23) hK dX5_swap_4 (by decide) h (fun h => ?_) (fun h => ?_)
  · refine aw_bipush (v := (-nI 2)) hK dX5_swap_23 rfl ?_
    exact aw_iret hK dX5_swap_25 h hF
  · refine aw_iload_n hK 2 dX5_swap_7 rfl rfl ?_
    refine aw_callS_i (n := 1) hK (fun _ _ _ _ q => ct_X5_isThree hK.zk q) (lw_S q1397 q1398 q102 q1399) (by decide +kernel) (by decide) rfl rfl (Nat.le_of_ble_eq_true rfl) dX5_swap_8 h (fun v4 L3 _ _ h => ?_)
    refine aw_if_eq (tgt := 23) hK dX5_swap_11 (by decide) h (fun h => ?_) (fun h => ?_)
    · refine aw_bipush (v := (-nI 2)) hK dX5_swap_23 rfl ?_
      exact aw_iret hK dX5_swap_25 h hF
    · refine aw_aload_n hK 0 dX5_swap_14 rfl rfl ?_
      refine aw_iload_n hK 1 dX5_swap_15 rfl rfl ?_
      refine aw_iload_n hK 2 dX5_swap_16 rfl rfl ?_
      obtain ⟨hj, h⟩ := fw_is_h h
      refine aw_callV_i (n := 2) hK fw_c7 hj (fun _ _ _ _ q => ct_X5_swapOf hK.zk q) (lw_V q1565 q1567 qs75 q102 q1568) (by decide +kernel) (by decide) rfl rfl (Nat.le_of_ble_eq_true rfl) dX5_swap_17 h (fun v6 L5 _ _ h => ?_)
      refine aw_goto (tgt := 25) hK dX5_swap_20 (by decide) ?_
      exact aw_iret hK dX5_swap_25 h hF
theorem ct_X5_swap {Z : fw_ZT} (hZ : fw_Zok Z) {j0 : Nat} {x1 : Int32} {x2 : Int32} {L : LH} {r9 : Int32} {L9 : LH} {mc ms : Nat} (h : f_X5_swap j0 x1 x2 L = some (r9, L9, mc, ms)) : Ct Z yX5_swap (ws_ yX5_swap cX5_swap 3 (some (.int))) 8 185 [aR (some j0), aI x1, aI x2] L (some (aI r9)) L9 mc ms :=
  ct_of (own := RX5) hZ (by decide +kernel) rfl (Nat.le_of_ble_eq_true rfl) (fun K _ hK hF hini => w_X5_swap_0 hK hF h)
def f_X5_out (j0 : Nat) (x1 : Int32) (x2 : Int32) (L : LH) : Rs Int32 :=
  fw_cl (f_X5_isTwo x1 L) fun v2 L1 =>
  if v2 = 0 then (
    some ((-nI 2), L1, 0, 0)
  ) else (
    fw_cl (f_X5_isTwo x2 L1) fun v4 L3 =>
    if v4 = 0 then (
      some ((-nI 2), L3, 0, 0)
    ) else (
      fw_is 8 L3 j0 <|
      fw_cl (f_X5_outOf j0 x1 x2 L3) fun v6 L5 =>
      some (v6, L5, 0, 0)
    )
  )
set_option maxHeartbeats 4000000 in
set_option maxRecDepth 100000 in
theorem w_X5_out_0 {K : Kx} {r9 : Int32} {L9 : LH} (hK : Ok K cX5_out 3 RX5 8 183) (hF : Fin K (some (.int)) (some (aI r9)) L9) {j0 : Nat} {x1 : Int32} {x2 : Int32} {L : LH} {mc ms : Nat} (h : f_X5_out j0 x1 x2 L = some (r9, L9, mc, ms)) : AW K L mc ms 0 [(0, aR (some j0)), (1, aI x1), (2, aI x2)] [] := by
  unfold f_X5_out at h
  refine aw_iload_n hK 1 dX5_out_0 rfl rfl ?_
  refine aw_callS_i (n := 1) hK (fun _ _ _ _ q => ct_X5_isTwo hK.zk q) (lw_S q1408 q1409 q102 q1410) (by decide +kernel) (by decide) rfl rfl (Nat.le_of_ble_eq_true rfl) dX5_out_1 h (fun v2 L1 _ _ h => ?_)
  refine aw_if_eq (tgt := 23) hK dX5_out_4 (by decide) h (fun h => ?_) (fun h => ?_)
  · refine aw_bipush (v := (-nI 2)) hK dX5_out_23 rfl ?_
    exact aw_iret hK dX5_out_25 h hF
  · refine aw_iload_n hK 2 dX5_out_7 rfl rfl ?_
    refine aw_callS_i (n := 1) hK (fun _ _ _ _ q => ct_X5_isTwo hK.zk q) (lw_S q1408 q1409 q102 q1410) (by decide +kernel) (by decide) rfl rfl (Nat.le_of_ble_eq_true rfl) dX5_out_8 h (fun v4 L3 _ _ h => ?_)
    refine aw_if_eq (tgt := 23) hK dX5_out_11 (by decide) h (fun h => ?_) (fun h => ?_)
    · refine aw_bipush (v := (-nI 2)) hK dX5_out_23 rfl ?_
      exact aw_iret hK dX5_out_25 h hF
    · refine aw_aload_n hK 0 dX5_out_14 rfl rfl ?_
      refine aw_iload_n hK 1 dX5_out_15 rfl rfl ?_
      refine aw_iload_n hK 2 dX5_out_16 rfl rfl ?_
      obtain ⟨hj, h⟩ := fw_is_h h
      refine aw_callV_i (n := 2) hK fw_c7 hj (fun _ _ _ _ q => ct_X5_outOf hK.zk q) (lw_V q1573 q1575 qs76 q102 q1576) (by decide +kernel) (by decide) rfl rfl (Nat.le_of_ble_eq_true rfl) dX5_out_17 h (fun v6 L5 _ _ h => ?_)
      refine aw_goto (tgt := 25) hK dX5_out_20 (by decide) ?_
      exact aw_iret hK dX5_out_25 h hF
theorem ct_X5_out {Z : fw_ZT} (hZ : fw_Zok Z) {j0 : Nat} {x1 : Int32} {x2 : Int32} {L : LH} {r9 : Int32} {L9 : LH} {mc ms : Nat} (h : f_X5_out j0 x1 x2 L = some (r9, L9, mc, ms)) : Ct Z yX5_out (ws_ yX5_out cX5_out 3 (some (.int))) 8 183 [aR (some j0), aI x1, aI x2] L (some (aI r9)) L9 mc ms :=
  ct_of (own := RX5) hZ (by decide +kernel) rfl (Nat.le_of_ble_eq_true rfl) (fun K _ hK hF hini => w_X5_out_0 hK hF h)
def f_X5_spareBy_63 (rec51 : Nat → Int32 → LH → Rs Int32) : Nat → Nat → Int32 → Int32 → LH → Rs Int32
  | 0, _, _, _, _ => none
  | n + 1, j0, x1, x2, L =>
    fw_gI 8 L j0 9 fun v1 =>
    if v1 ≤ x2 then (
      rec51 j0 (x1 + (nI 1)) L
    ) else (
      fw_gR 8 L j0 36 fun r2 =>
      fw_nn r2 fun j3 =>
      fw_wr 100 L j3 (nI 0) x1 fun L4 =>
      fw_gR 8 L4 j0 36 fun r5 =>
      fw_nn r5 fun j6 =>
      fw_wr 100 L4 j6 (nI 1) x2 fun L7 =>
      fw_is 8 L7 j0 <|
      fw_cl (f_X5_isSpared j0 (((nI 1) <<< (x1 &&& 31)) ||| ((nI 1) <<< (x2 &&& 31))) L7) fun v9 L8 =>
      if v9 = 0 then (
        f_X5_spareBy_63 rec51 n j0 x1 (x2 + (nI 1)) L8
      ) else (
        some ((nI 2), L8, 0, 0)
      )
    )
def f_X5_spareBy_51 : Nat → Nat → Int32 → LH → Rs Int32
  | 0, _, _, _ => none
  | n + 1, j0, x1, L =>
    fw_gI 8 L j0 9 fun v1 =>
    if v1 ≤ x1 then (
      some ((-nI 1), L, 0, 0)
    ) else (
      f_X5_spareBy_63 (f_X5_spareBy_51 n) fw_fuel j0 x1 (x1 + (nI 1)) L
    )
def f_X5_spareBy_16 : Nat → Nat → Int32 → LH → Rs Int32
  | 0, _, _, _ => none
  | n + 1, j0, x1, L =>
    fw_gI 8 L j0 9 fun v1 =>
    if v1 ≤ x1 then (
      f_X5_spareBy_51 fw_fuel j0 (nI 0) L
    ) else (
      fw_gR 8 L j0 36 fun r2 =>
      fw_nn r2 fun j3 =>
      fw_wr 100 L j3 (nI 0) x1 fun L4 =>
      fw_is 8 L4 j0 <|
      fw_cl (f_X5_isSpared j0 ((nI 1) <<< (x1 &&& 31)) L4) fun v6 L5 =>
      if v6 = 0 then (
        f_X5_spareBy_16 n j0 (x1 + (nI 1)) L5
      ) else (
        some ((nI 1), L5, 0, 0)
      )
    )
def f_X5_spareBy (j0 : Nat) (L : LH) : Rs Int32 :=
  fw_is 8 L j0 <|
  fw_cl (f_X5_asTold j0 L) fun _ L1 =>
  fw_is 8 L1 j0 <|
  fw_cl (f_X5_isSpared j0 (nI 0) L1) fun v3 L2 =>
  if v3 = 0 then (
    f_X5_spareBy_16 fw_fuel j0 (nI 0) L2
  ) else (
    some ((nI 0), L2, 0, 0)
  )
set_option maxHeartbeats 4000000 in
set_option maxRecDepth 100000 in
theorem w_X5_spareBy_63 {K : Kx} {r9 : Int32} {L9 : LH} (hK : Ok K cX5_spareBy 3 RX5 6 140) (hF : Fin K (some (.int)) (some (aI r9)) L9) {rec51 : Nat → Int32 → LH → Rs Int32} (hrec51 : ∀ {j0 : Nat} {x1 : Int32} {L : LH} {mc ms : Nat}, rec51 j0 x1 L = some (r9, L9, mc, ms) → AW K L mc ms 51 [(0, aR (some j0)), (1, aI x1)] []) : ∀ {n : Nat} {j0 : Nat} {x1 : Int32} {x2 : Int32} {L : LH} {mc ms : Nat}, f_X5_spareBy_63 rec51 n j0 x1 x2 L = some (r9, L9, mc, ms) → AW K L mc ms 63 [(0, aR (some j0)), (1, aI x1), (2, aI x2)] [] := by
  intro n
  induction n with
  | zero =>
    intro j0 x1 x2 L mc ms h
    have h : (none : Rs Int32) = some (r9, L9, mc, ms) := h
    cases h
  | succ n ih =>
    intro j0 x1 x2 L mc ms h
    unfold f_X5_spareBy_63 at h
    refine aw_iload_n hK 2 dX5_spareBy_63 rfl rfl ?_
    refine aw_aload_n hK 0 dX5_spareBy_64 rfl rfl ?_
    refine aw_gI hK fw_c7 9 (by decide) rfl q1202 (fun _ h9 => h9) dX5_spareBy_65 h (fun v1 h => ?_)
    refine aw_icmp_ge (tgt := 107) hK dX5_spareBy_68 (by decide) h (fun h => ?_) (fun h => ?_)
    · refine aw_iinc (v := (x1 + (nI 1))) (lv' := [(1, aI (x1 + (nI 1))), (0, aR (some j0)), (2, aI x2)]) hK 1 dX5_spareBy_107 rfl rfl (by decide) rfl ?_
      refine aw_goto (tgt := 51) hK dX5_spareBy_110 (by decide) ?_
      exact aw_sub [1, 0] rfl (hrec51 h)
    · refine aw_aload_n hK 0 dX5_spareBy_71 rfl rfl ?_
      refine aw_gR hK fw_c7 36 (by decide) rfl q1229 (fun _ h9 => h9) dX5_spareBy_72 h (fun r2 h => ?_)
      refine aw_iconst (v := (nI 0)) hK dX5_spareBy_75 rfl ?_
      refine aw_iload_n hK 1 dX5_spareBy_76 rfl rfl ?_
      obtain _ | j3 := r2
      · exact (fw_nn_no h).elim
      replace h := fw_nn_so h
      refine aw_iast hK dX5_spareBy_77 h (fun L4 h => ?_)
      refine aw_aload_n hK 0 dX5_spareBy_78 rfl rfl ?_
      refine aw_gR hK fw_c7 36 (by decide) rfl q1229 (fun _ h9 => h9) dX5_spareBy_79 h (fun r5 h => ?_)
      refine aw_iconst (v := (nI 1)) hK dX5_spareBy_82 rfl ?_
      refine aw_iload_n hK 2 dX5_spareBy_83 rfl rfl ?_
      obtain _ | j6 := r5
      · exact (fw_nn_no h).elim
      replace h := fw_nn_so h
      refine aw_iast hK dX5_spareBy_84 h (fun L7 h => ?_)
      refine aw_aload_n hK 0 dX5_spareBy_85 rfl rfl ?_
      refine aw_iconst (v := (nI 1)) hK dX5_spareBy_86 rfl ?_
      refine aw_iload_n hK 1 dX5_spareBy_87 rfl rfl ?_
      refine aw_ishl hK dX5_spareBy_88 ?_
      refine aw_iconst (v := (nI 1)) hK dX5_spareBy_89 rfl ?_
      refine aw_iload_n hK 2 dX5_spareBy_90 rfl rfl ?_
      refine aw_ishl hK dX5_spareBy_91 ?_
      refine aw_ior hK dX5_spareBy_92 ?_
      obtain ⟨hj, h⟩ := fw_is_h h
      refine aw_callV_i (n := 1) hK fw_c7 hj (fun _ _ _ _ q => ct_X5_isSpared hK.zk q) (lw_V q1585 q1587 qs78 q102 q1588) (by decide +kernel) (by decide) rfl rfl (Nat.le_of_ble_eq_true rfl) dX5_spareBy_93 h (fun v9 L8 _ _ h => ?_)
      refine aw_if_eq (tgt := 101) hK dX5_spareBy_96 (by decide) h (fun h => ?_) (fun h => ?_)
      · refine aw_iinc (v := (x2 + (nI 1))) (lv' := [(2, aI (x2 + (nI 1))), (0, aR (some j0)), (1, aI x1)]) hK 2 dX5_spareBy_101 rfl rfl (by decide) rfl ?_
        refine aw_goto (tgt := 63) hK dX5_spareBy_104 (by decide) ?_
        exact aw_sub [1, 2, 0] rfl (ih h)
      · refine aw_iconst (v := (nI 2)) hK dX5_spareBy_99 rfl ?_
        exact aw_iret hK dX5_spareBy_100 h hF
set_option maxHeartbeats 4000000 in
set_option maxRecDepth 100000 in
theorem w_X5_spareBy_51 {K : Kx} {r9 : Int32} {L9 : LH} (hK : Ok K cX5_spareBy 3 RX5 6 140) (hF : Fin K (some (.int)) (some (aI r9)) L9) : ∀ {n : Nat} {j0 : Nat} {x1 : Int32} {L : LH} {mc ms : Nat}, f_X5_spareBy_51 n j0 x1 L = some (r9, L9, mc, ms) → AW K L mc ms 51 [(0, aR (some j0)), (1, aI x1)] [] := by
  intro n
  induction n with
  | zero =>
    intro j0 x1 L mc ms h
    have h : (none : Rs Int32) = some (r9, L9, mc, ms) := h
    cases h
  | succ n ih =>
    intro j0 x1 L mc ms h
    unfold f_X5_spareBy_51 at h
    refine aw_iload_n hK 1 dX5_spareBy_51 rfl rfl ?_
    refine aw_aload_n hK 0 dX5_spareBy_52 rfl rfl ?_
    refine aw_gI hK fw_c7 9 (by decide) rfl q1202 (fun _ h9 => h9) dX5_spareBy_53 h (fun v1 h => ?_)
    refine aw_icmp_ge (tgt := 113) hK dX5_spareBy_56 (by decide) h (fun h => ?_) (fun h => ?_)
    · refine aw_iconst (v := (-nI 1)) hK dX5_spareBy_113 rfl ?_
      exact aw_iret hK dX5_spareBy_114 h hF
    · refine aw_iload_n hK 1 dX5_spareBy_59 rfl rfl ?_
      refine aw_iconst (v := (nI 1)) hK dX5_spareBy_60 rfl ?_
      refine aw_iadd hK dX5_spareBy_61 ?_
      refine aw_istore_n (lv' := [(2, aI (x1 + (nI 1))), (0, aR (some j0)), (1, aI x1)]) hK dX5_spareBy_62 rfl (by decide) rfl ?_
      exact aw_sub [1, 2, 0] rfl (w_X5_spareBy_63 hK hF (fun h => ih h) h)
set_option maxHeartbeats 4000000 in
set_option maxRecDepth 100000 in
theorem w_X5_spareBy_16 {K : Kx} {r9 : Int32} {L9 : LH} (hK : Ok K cX5_spareBy 3 RX5 6 140) (hF : Fin K (some (.int)) (some (aI r9)) L9) : ∀ {n : Nat} {j0 : Nat} {x1 : Int32} {L : LH} {mc ms : Nat}, f_X5_spareBy_16 n j0 x1 L = some (r9, L9, mc, ms) → AW K L mc ms 16 [(0, aR (some j0)), (1, aI x1)] [] := by
  intro n
  induction n with
  | zero =>
    intro j0 x1 L mc ms h
    have h : (none : Rs Int32) = some (r9, L9, mc, ms) := h
    cases h
  | succ n ih =>
    intro j0 x1 L mc ms h
    unfold f_X5_spareBy_16 at h
    refine aw_iload_n hK 1 dX5_spareBy_16 rfl rfl ?_
    refine aw_aload_n hK 0 dX5_spareBy_17 rfl rfl ?_
    refine aw_gI hK fw_c7 9 (by decide) rfl q1202 (fun _ h9 => h9) dX5_spareBy_18 h (fun v1 h => ?_)
    refine aw_icmp_ge (tgt := 49) hK dX5_spareBy_21 (by decide) h (fun h => ?_) (fun h => ?_)
    · refine aw_iconst (v := (nI 0)) hK dX5_spareBy_49 rfl ?_
      refine aw_istore_n (lv' := [(1, aI (nI 0)), (0, aR (some j0))]) hK dX5_spareBy_50 rfl (by decide) rfl ?_
      exact aw_sub [1, 0] rfl (w_X5_spareBy_51 hK hF h)
    · refine aw_aload_n hK 0 dX5_spareBy_24 rfl rfl ?_
      refine aw_gR hK fw_c7 36 (by decide) rfl q1229 (fun _ h9 => h9) dX5_spareBy_25 h (fun r2 h => ?_)
      refine aw_iconst (v := (nI 0)) hK dX5_spareBy_28 rfl ?_
      refine aw_iload_n hK 1 dX5_spareBy_29 rfl rfl ?_
      obtain _ | j3 := r2
      · exact (fw_nn_no h).elim
      replace h := fw_nn_so h
      refine aw_iast hK dX5_spareBy_30 h (fun L4 h => ?_)
      refine aw_aload_n hK 0 dX5_spareBy_31 rfl rfl ?_
      refine aw_iconst (v := (nI 1)) hK dX5_spareBy_32 rfl ?_
      refine aw_iload_n hK 1 dX5_spareBy_33 rfl rfl ?_
      refine aw_ishl hK dX5_spareBy_34 ?_
      obtain ⟨hj, h⟩ := fw_is_h h
      refine aw_callV_i (n := 1) hK fw_c7 hj (fun _ _ _ _ q => ct_X5_isSpared hK.zk q) (lw_V q1585 q1587 qs78 q102 q1588) (by decide +kernel) (by decide) rfl rfl (Nat.le_of_ble_eq_true rfl) dX5_spareBy_35 h (fun v6 L5 _ _ h => ?_)
      refine aw_if_eq (tgt := 43) hK dX5_spareBy_38 (by decide) h (fun h => ?_) (fun h => ?_)
      · refine aw_iinc (v := (x1 + (nI 1))) (lv' := [(1, aI (x1 + (nI 1))), (0, aR (some j0))]) hK 1 dX5_spareBy_43 rfl rfl (by decide) rfl ?_
        refine aw_goto (tgt := 16) hK dX5_spareBy_46 (by decide) ?_
        exact aw_sub [1, 0] rfl (ih h)
      · refine aw_iconst (v := (nI 1)) hK dX5_spareBy_41 rfl ?_
        exact aw_iret hK dX5_spareBy_42 h hF
set_option maxHeartbeats 4000000 in
set_option maxRecDepth 100000 in
theorem w_X5_spareBy_0 {K : Kx} {r9 : Int32} {L9 : LH} (hK : Ok K cX5_spareBy 3 RX5 6 140) (hF : Fin K (some (.int)) (some (aI r9)) L9) {j0 : Nat} {L : LH} {mc ms : Nat} (h : f_X5_spareBy j0 L = some (r9, L9, mc, ms)) : AW K L mc ms 0 [(0, aR (some j0))] [] := by
  unfold f_X5_spareBy at h
  refine aw_aload_n hK 0 dX5_spareBy_0 rfl rfl ?_
  obtain ⟨hj, h⟩ := fw_is_h h
  refine aw_callV_v (n := 0) hK fw_c7 hj (fun _ _ _ _ q => ct_X5_asTold hK.zk q) (lw_V q1454 q1456 qs57 q102 q1457) (by decide +kernel) (by decide) rfl rfl (Nat.le_of_ble_eq_true rfl) dX5_spareBy_1 h (fun _ L1 _ _ h => ?_)
  refine aw_aload_n hK 0 dX5_spareBy_4 rfl rfl ?_
  refine aw_iconst (v := (nI 0)) hK dX5_spareBy_5 rfl ?_
  obtain ⟨hj, h⟩ := fw_is_h h
  refine aw_callV_i (n := 1) hK fw_c7 hj (fun _ _ _ _ q => ct_X5_isSpared hK.zk q) (lw_V q1585 q1587 qs78 q102 q1588) (by decide +kernel) (by decide) rfl rfl (Nat.le_of_ble_eq_true rfl) dX5_spareBy_6 h (fun v3 L2 _ _ h => ?_)
  refine aw_if_eq (tgt := 14) hK dX5_spareBy_9 (by decide) h (fun h => ?_) (fun h => ?_)
  · refine aw_iconst (v := (nI 0)) hK dX5_spareBy_14 rfl ?_
    refine aw_istore_n (lv' := [(1, aI (nI 0)), (0, aR (some j0))]) hK dX5_spareBy_15 rfl (by decide) rfl ?_
    exact aw_sub [1, 0] rfl (w_X5_spareBy_16 hK hF h)
  · refine aw_iconst (v := (nI 0)) hK dX5_spareBy_12 rfl ?_
    exact aw_iret hK dX5_spareBy_13 h hF
theorem ct_X5_spareBy {Z : fw_ZT} (hZ : fw_Zok Z) {j0 : Nat} {L : LH} {r9 : Int32} {L9 : LH} {mc ms : Nat} (h : f_X5_spareBy j0 L = some (r9, L9, mc, ms)) : Ct Z yX5_spareBy (ws_ yX5_spareBy cX5_spareBy 3 (some (.int))) 6 140 [aR (some j0)] L (some (aI r9)) L9 mc ms :=
  ct_of (own := RX5) hZ (by decide +kernel) rfl (Nat.le_of_ble_eq_true rfl) (fun K _ hK hF hini => w_X5_spareBy_0 hK hF h)
def f_X5_neverNow_38 (rec8 : Nat → Int32 → Int32 → LH → Rs Int32) (j0 : Nat) (x2 : Int32) (sx0 : Int32) (sx1 : Int32) (L : LH) : Rs Int32 :=
  rec8 j0 (sx1 ||| sx0) (x2 + (nI 1)) L
def f_X5_neverNow_8 : Nat → Nat → Int32 → Int32 → LH → Rs Int32
  | 0, _, _, _, _ => none
  | n + 1, j0, x1, x2, L =>
    fw_gI 8 L j0 9 fun v1 =>
    if v1 ≤ x2 then (
      some (x1, L, 0, 0)
    ) else (
      fw_pI 8 L j0 14 ((nI 1) <<< (x2 &&& 31)) fun L2 =>
      fw_is 8 L2 j0 <|
      fw_cl (f_X5_isSeen j0 L2) fun v4 L3 =>
      if v4 = 0 then (
        f_X5_neverNow_38 (f_X5_neverNow_8 n) j0 x2 (nI 0) x1 L3
      ) else (
        f_X5_neverNow_38 (f_X5_neverNow_8 n) j0 x2 ((nI 1) <<< (x2 &&& 31)) x1 L3
      )
    )
def f_X5_neverNow (j0 : Nat) (L : LH) : Rs Int32 :=
  fw_is 8 L j0 <|
  fw_cl (f_X5_asTold j0 L) fun _ L1 =>
  f_X5_neverNow_8 fw_fuel j0 (nI 0) (nI 0) L1
set_option maxHeartbeats 4000000 in
set_option maxRecDepth 100000 in
theorem w_X5_neverNow_38 {K : Kx} {r9 : Int32} {L9 : LH} (hK : Ok K cX5_neverNow 3 RX5 6 140) (hF : Fin K (some (.int)) (some (aI r9)) L9) {rec8 : Nat → Int32 → Int32 → LH → Rs Int32} (hrec8 : ∀ {j0 : Nat} {x1 : Int32} {x2 : Int32} {L : LH} {mc ms : Nat}, rec8 j0 x1 x2 L = some (r9, L9, mc, ms) → AW K L mc ms 8 [(0, aR (some j0)), (1, aI x1), (2, aI x2)] []) {j0 : Nat} {x2 : Int32} {sx0 : Int32} {sx1 : Int32} {L : LH} {mc ms : Nat} (h : f_X5_neverNow_38 rec8 j0 x2 sx0 sx1 L = some (r9, L9, mc, ms)) : AW K L mc ms 38 [(0, aR (some j0)), (2, aI x2)] [aI sx0, aI sx1] := by
  unfold f_X5_neverNow_38 at h
  refine aw_ior hK dX5_neverNow_38 ?_
  refine aw_istore_n (lv' := [(1, aI (sx1 ||| sx0)), (0, aR (some j0)), (2, aI x2)]) hK dX5_neverNow_39 rfl (by decide) rfl ?_
  refine aw_iinc (v := (x2 + (nI 1))) (lv' := [(2, aI (x2 + (nI 1))), (1, aI (sx1 ||| sx0)), (0, aR (some j0))]) hK 2 dX5_neverNow_40 rfl rfl (by decide) rfl ?_
  refine aw_goto (tgt := 8) hK dX5_neverNow_43 (by decide) ?_
  exact aw_sub [2, 1, 0] rfl (hrec8 h)
set_option maxHeartbeats 4000000 in
set_option maxRecDepth 100000 in
theorem w_X5_neverNow_8 {K : Kx} {r9 : Int32} {L9 : LH} (hK : Ok K cX5_neverNow 3 RX5 6 140) (hF : Fin K (some (.int)) (some (aI r9)) L9) : ∀ {n : Nat} {j0 : Nat} {x1 : Int32} {x2 : Int32} {L : LH} {mc ms : Nat}, f_X5_neverNow_8 n j0 x1 x2 L = some (r9, L9, mc, ms) → AW K L mc ms 8 [(0, aR (some j0)), (1, aI x1), (2, aI x2)] [] := by
  intro n
  induction n with
  | zero =>
    intro j0 x1 x2 L mc ms h
    have h : (none : Rs Int32) = some (r9, L9, mc, ms) := h
    cases h
  | succ n ih =>
    intro j0 x1 x2 L mc ms h
    unfold f_X5_neverNow_8 at h
    refine aw_iload_n hK 2 dX5_neverNow_8 rfl rfl ?_
    refine aw_aload_n hK 0 dX5_neverNow_9 rfl rfl ?_
    refine aw_gI hK fw_c7 9 (by decide) rfl q1202 (fun _ h9 => h9) dX5_neverNow_10 h (fun v1 h => ?_)
    refine aw_icmp_ge (tgt := 46) hK dX5_neverNow_13 (by decide) h (fun h => ?_) (fun h => ?_)
    · refine aw_iload_n hK 1 dX5_neverNow_46 rfl rfl ?_
      exact aw_iret hK dX5_neverNow_47 h hF
    · refine aw_aload_n hK 0 dX5_neverNow_16 rfl rfl ?_
      refine aw_iconst (v := (nI 1)) hK dX5_neverNow_17 rfl ?_
      refine aw_iload_n hK 2 dX5_neverNow_18 rfl rfl ?_
      refine aw_ishl hK dX5_neverNow_19 ?_
      refine aw_pI hK fw_c7 14 (by decide) rfl q1207 (fun _ h9 => h9) rfl rfl rfl dX5_neverNow_20 h (fun L2 h => ?_)
      refine aw_iload_n hK 1 dX5_neverNow_23 rfl rfl ?_
      refine aw_aload_n hK 0 dX5_neverNow_24 rfl rfl ?_
      obtain ⟨hj, h⟩ := fw_is_h h
      refine aw_callV_i (n := 0) hK fw_c7 hj (fun _ _ _ _ q => ct_X5_isSeen hK.zk q) (lw_V q1609 q1611 qs81 q102 q1612) (by decide +kernel) (by decide) rfl rfl (Nat.le_of_ble_eq_true rfl) dX5_neverNow_25 h (fun v4 L3 _ _ h => ?_)
      refine aw_if_eq (tgt := 37) hK dX5_neverNow_28 (by decide) h (fun h => ?_) (fun h => ?_)
      · refine aw_iconst (v := (nI 0)) hK dX5_neverNow_37 rfl ?_
        exact aw_sub [0, 2] rfl (w_X5_neverNow_38 hK hF (fun h => ih h) h)
      · refine aw_iconst (v := (nI 1)) hK dX5_neverNow_31 rfl ?_
        refine aw_iload_n hK 2 dX5_neverNow_32 rfl rfl ?_
        refine aw_ishl hK dX5_neverNow_33 ?_
        refine aw_goto (tgt := 38) hK dX5_neverNow_34 (by decide) ?_
        exact aw_sub [0, 2] rfl (w_X5_neverNow_38 hK hF (fun h => ih h) h)
set_option maxHeartbeats 4000000 in
set_option maxRecDepth 100000 in
theorem w_X5_neverNow_0 {K : Kx} {r9 : Int32} {L9 : LH} (hK : Ok K cX5_neverNow 3 RX5 6 140) (hF : Fin K (some (.int)) (some (aI r9)) L9) {j0 : Nat} {L : LH} {mc ms : Nat} (h : f_X5_neverNow j0 L = some (r9, L9, mc, ms)) : AW K L mc ms 0 [(0, aR (some j0))] [] := by
  unfold f_X5_neverNow at h
  refine aw_aload_n hK 0 dX5_neverNow_0 rfl rfl ?_
  obtain ⟨hj, h⟩ := fw_is_h h
  refine aw_callV_v (n := 0) hK fw_c7 hj (fun _ _ _ _ q => ct_X5_asTold hK.zk q) (lw_V q1454 q1456 qs57 q102 q1457) (by decide +kernel) (by decide) rfl rfl (Nat.le_of_ble_eq_true rfl) dX5_neverNow_1 h (fun _ L1 _ _ h => ?_)
  refine aw_iconst (v := (nI 0)) hK dX5_neverNow_4 rfl ?_
  refine aw_istore_n (lv' := [(1, aI (nI 0)), (0, aR (some j0))]) hK dX5_neverNow_5 rfl (by decide) rfl ?_
  refine aw_iconst (v := (nI 0)) hK dX5_neverNow_6 rfl ?_
  refine aw_istore_n (lv' := [(2, aI (nI 0)), (1, aI (nI 0)), (0, aR (some j0))]) hK dX5_neverNow_7 rfl (by decide) rfl ?_
  exact aw_sub [2, 1, 0] rfl (w_X5_neverNow_8 hK hF h)
theorem ct_X5_neverNow {Z : fw_ZT} (hZ : fw_Zok Z) {j0 : Nat} {L : LH} {r9 : Int32} {L9 : LH} {mc ms : Nat} (h : f_X5_neverNow j0 L = some (r9, L9, mc, ms)) : Ct Z yX5_neverNow (ws_ yX5_neverNow cX5_neverNow 3 (some (.int))) 6 140 [aR (some j0)] L (some (aI r9)) L9 mc ms :=
  ct_of (own := RX5) hZ (by decide +kernel) rfl (Nat.le_of_ble_eq_true rfl) (fun K _ hK hF hini => w_X5_neverNow_0 hK hF h)
def f_X5_was (j0 : Nat) (x1 : Int32) (x2 : Int32) (L : LH) : Rs Int32 :=
  fw_is 8 L j0 <|
  fw_cl (f_X5_isPuller j0 x1 L) fun v2 L1 =>
  if v2 = 0 then (
    some ((-nI 2), L1, 0, 0)
  ) else (
    fw_cl (f_X5_isTwo x2 L1) fun v4 L3 =>
    if v4 = 0 then (
      some ((-nI 2), L3, 0, 0)
    ) else (
      if x2 = 0 then (
        fw_is 8 L3 j0 <|
        fw_cl (f_X5_weightsBy j0 x1 L3) fun v8 L7 =>
        some (v8, L7, 0, 0)
      ) else (
        fw_is 8 L3 j0 <|
        fw_cl (f_X5_sortsBy j0 x1 L3) fun v6 L5 =>
        some (v6, L5, 0, 0)
      )
    )
  )
set_option maxHeartbeats 4000000 in
set_option maxRecDepth 100000 in
theorem w_X5_was_0 {K : Kx} {r9 : Int32} {L9 : LH} (hK : Ok K cX5_was 3 RX5 7 165) (hF : Fin K (some (.int)) (some (aI r9)) L9) {j0 : Nat} {x1 : Int32} {x2 : Int32} {L : LH} {mc ms : Nat} (h : f_X5_was j0 x1 x2 L = some (r9, L9, mc, ms)) : AW K L mc ms 0 [(0, aR (some j0)), (1, aI x1), (2, aI x2)] [] := by
  unfold f_X5_was at h
  refine aw_aload_n hK 0 dX5_was_0 rfl rfl ?_
  refine aw_iload_n hK 1 dX5_was_1 rfl rfl ?_
  obtain ⟨hj, h⟩ := fw_is_h h
  refine aw_callV_i (n := 1) hK fw_c7 hj (fun _ _ _ _ q => ct_X5_isPuller hK.zk q) (lw_V q1385 q1387 qs49 q102 q1388) (by decide +kernel) (by decide) rfl rfl (Nat.le_of_ble_eq_true rfl) dX5_was_2 h (fun v2 L1 _ _ h => ?_)
  refine aw_if_eq (tgt := 35) hK dX5_was_5 (by decide) h (fun h => ?_) (fun h => ?_)
  · refine aw_bipush (v := (-nI 2)) hK dX5_was_35 rfl ?_
    exact aw_iret hK dX5_was_37 h hF
  · refine aw_iload_n hK 2 dX5_was_8 rfl rfl ?_
    refine aw_callS_i (n := 1) hK (fun _ _ _ _ q => ct_X5_isTwo hK.zk q) (lw_S q1408 q1409 q102 q1410) (by decide +kernel) (by decide) rfl rfl (Nat.le_of_ble_eq_true rfl) dX5_was_9 h (fun v4 L3 _ _ h => ?_)
    refine aw_if_eq (tgt := 35) hK dX5_was_12 (by decide) h (fun h => ?_) (fun h => ?_)
    · refine aw_bipush (v := (-nI 2)) hK dX5_was_35 rfl ?_
      exact aw_iret hK dX5_was_37 h hF
    · refine aw_iload_n hK 2 dX5_was_15 rfl rfl ?_
      refine aw_if_ne (tgt := 27) hK dX5_was_16 (by decide) h (fun h => ?_) (fun h => ?_)
      · refine aw_aload_n hK 0 dX5_was_27 rfl rfl ?_
        refine aw_iload_n hK 1 dX5_was_28 rfl rfl ?_
        obtain ⟨hj, h⟩ := fw_is_h h
        refine aw_callV_i (n := 1) hK fw_c7 hj (fun _ _ _ _ q => ct_X5_sortsBy hK.zk q) (lw_V q1621 q1623 qs83 q102 q1624) (by decide +kernel) (by decide) rfl rfl (Nat.le_of_ble_eq_true rfl) dX5_was_29 h (fun v6 L5 _ _ h => ?_)
        refine aw_goto (tgt := 37) hK dX5_was_32 (by decide) ?_
        exact aw_iret hK dX5_was_37 h hF
      · refine aw_aload_n hK 0 dX5_was_19 rfl rfl ?_
        refine aw_iload_n hK 1 dX5_was_20 rfl rfl ?_
        obtain ⟨hj, h⟩ := fw_is_h h
        refine aw_callV_i (n := 1) hK fw_c7 hj (fun _ _ _ _ q => ct_X5_weightsBy hK.zk q) (lw_V q1617 q1619 qs82 q102 q1620) (by decide +kernel) (by decide) rfl rfl (Nat.le_of_ble_eq_true rfl) dX5_was_21 h (fun v8 L7 _ _ h => ?_)
        refine aw_goto (tgt := 37) hK dX5_was_24 (by decide) ?_
        exact aw_iret hK dX5_was_37 h hF
theorem ct_X5_was {Z : fw_ZT} (hZ : fw_Zok Z) {j0 : Nat} {x1 : Int32} {x2 : Int32} {L : LH} {r9 : Int32} {L9 : LH} {mc ms : Nat} (h : f_X5_was j0 x1 x2 L = some (r9, L9, mc, ms)) : Ct Z yX5_was (ws_ yX5_was cX5_was 3 (some (.int))) 7 165 [aR (some j0), aI x1, aI x2] L (some (aI r9)) L9 mc ms :=
  ct_of (own := RX5) hZ (by decide +kernel) rfl (Nat.le_of_ble_eq_true rfl) (fun K _ hK hF hini => w_X5_was_0 hK hF h)
def f_X5_ask (j0 : Nat) (x1 : Int32) (L : LH) : Rs Int32 :=
  fw_is 8 L j0 <|
  fw_cl (f_X5_isPuller j0 x1 L) fun v2 L1 =>
  if v2 = 0 then (
    some ((-nI 2), L1, 0, 0)
  ) else (
    fw_is 8 L1 j0 <|
    fw_cl (f_X5_askOf j0 x1 L1) fun v4 L3 =>
    some (v4, L3, 0, 0)
  )
set_option maxHeartbeats 4000000 in
set_option maxRecDepth 100000 in
theorem w_X5_ask_0 {K : Kx} {r9 : Int32} {L9 : LH} (hK : Ok K cX5_ask 2 RX5 8 194) (hF : Fin K (some (.int)) (some (aI r9)) L9) {j0 : Nat} {x1 : Int32} {L : LH} {mc ms : Nat} (h : f_X5_ask j0 x1 L = some (r9, L9, mc, ms)) : AW K L mc ms 0 [(0, aR (some j0)), (1, aI x1)] [] := by
  unfold f_X5_ask at h
  refine aw_aload_n hK 0 dX5_ask_0 rfl rfl ?_
  refine aw_iload_n hK 1 dX5_ask_1 rfl rfl ?_
  obtain ⟨hj, h⟩ := fw_is_h h
  refine aw_callV_i (n := 1) hK fw_c7 hj (fun _ _ _ _ q => ct_X5_isPuller hK.zk q) (lw_V q1385 q1387 qs49 q102 q1388) (by decide +kernel) (by decide) rfl rfl (Nat.le_of_ble_eq_true rfl) dX5_ask_2 h (fun v2 L1 _ _ h => ?_)
  refine aw_if_eq (tgt := 16) hK dX5_ask_5 (by decide) h (fun h => ?_) (fun h => ?_)
  · refine aw_bipush (v := (-nI 2)) hK dX5_ask_16 rfl ?_
    exact aw_iret hK dX5_ask_18 h hF
  · refine aw_aload_n hK 0 dX5_ask_8 rfl rfl ?_
    refine aw_iload_n hK 1 dX5_ask_9 rfl rfl ?_
    obtain ⟨hj, h⟩ := fw_is_h h
    refine aw_callV_i (n := 1) hK fw_c7 hj (fun _ _ _ _ q => ct_X5_askOf hK.zk q) (lw_V q1629 q1631 qs84 q102 q1632) (by decide +kernel) (by decide) rfl rfl (Nat.le_of_ble_eq_true rfl) dX5_ask_10 h (fun v4 L3 _ _ h => ?_)
    refine aw_goto (tgt := 18) hK dX5_ask_13 (by decide) ?_
    exact aw_iret hK dX5_ask_18 h hF
theorem ct_X5_ask {Z : fw_ZT} (hZ : fw_Zok Z) {j0 : Nat} {x1 : Int32} {L : LH} {r9 : Int32} {L9 : LH} {mc ms : Nat} (h : f_X5_ask j0 x1 L = some (r9, L9, mc, ms)) : Ct Z yX5_ask (ws_ yX5_ask cX5_ask 2 (some (.int))) 8 194 [aR (some j0), aI x1] L (some (aI r9)) L9 mc ms :=
  ct_of (own := RX5) hZ (by decide +kernel) rfl (Nat.le_of_ble_eq_true rfl) (fun K _ hK hF hini => w_X5_ask_0 hK hF h)
def f_X5_chance_34 (L : LH) : Rs Int64 :=
  fw_cl (f_X5_no (-nI 2) L) fun v2 L1 =>
  some (v2, L1, 0, 0)
def f_X5_chance (j0 : Nat) (x1 : Int32) (x2 : Int32) (x3 : Int32) (L : LH) : Rs Int64 :=
  fw_cl (f_X5_in x1 (nI 0) (nI 16) L) fun v2 L1 =>
  if v2 = 0 then (
    f_X5_chance_34 L1
  ) else (
    fw_cl (f_X5_isTwo x2 L1) fun v4 L3 =>
    if v4 = 0 then (
      f_X5_chance_34 L3
    ) else (
      fw_cl (f_X5_isTwo x3 L3) fun v6 L5 =>
      if v6 = 0 then (
        f_X5_chance_34 L5
      ) else (
        fw_is 8 L5 j0 <|
        fw_cl (f_X5_chanceOf j0 x1 x2 x3 L5) fun v8 L7 =>
        some (v8, L7, 0, 0)
      )
    )
  )
set_option maxHeartbeats 4000000 in
set_option maxRecDepth 100000 in
theorem w_X5_chance_34 {K : Kx} {r9 : Int64} {L9 : LH} (hK : Ok K cX5_chance 4 RX5 7 169) (hF : Fin K (some (.long)) (some (aL r9)) L9)  {L : LH} {mc ms : Nat} (h : f_X5_chance_34  L = some (r9, L9, mc, ms)) : AW K L mc ms 34 [] [] := by
  unfold f_X5_chance_34 at h
  refine aw_bipush (v := (-nI 2)) hK dX5_chance_34 rfl ?_
  refine aw_callS_l (n := 1) hK (fun _ _ _ _ q => ct_X5_no hK.zk q) (lw_S q1644 q1645 q102 q1646) (by decide +kernel) (by decide) rfl rfl (Nat.le_of_ble_eq_true rfl) dX5_chance_36 h (fun v2 L1 _ _ h => ?_)
  exact aw_lret hK dX5_chance_39 h hF
set_option maxHeartbeats 4000000 in
set_option maxRecDepth 100000 in
theorem w_X5_chance_0 {K : Kx} {r9 : Int64} {L9 : LH} (hK : Ok K cX5_chance 4 RX5 7 169) (hF : Fin K (some (.long)) (some (aL r9)) L9) {j0 : Nat} {x1 : Int32} {x2 : Int32} {x3 : Int32} {L : LH} {mc ms : Nat} (h : f_X5_chance j0 x1 x2 x3 L = some (r9, L9, mc, ms)) : AW K L mc ms 0 [(0, aR (some j0)), (1, aI x1), (2, aI x2), (3, aI x3)] [] := by
  unfold f_X5_chance at h
  refine aw_iload_n hK 1 dX5_chance_0 rfl rfl ?_
  refine aw_iconst (v := (nI 0)) hK dX5_chance_1 rfl ?_
  refine aw_bipush (v := (nI 16)) hK dX5_chance_2 rfl ?_
  refine aw_callS_i (n := 3) hK (fun _ _ _ _ q => ct_X5_in hK.zk q) (lw_S q1343 q1344 q102 q1345) (by decide +kernel) (by decide) rfl rfl (Nat.le_of_ble_eq_true rfl) dX5_chance_4 h (fun v2 L1 _ _ h => ?_)
  refine aw_if_eq (tgt := 34) hK dX5_chance_7 (by decide) h (fun h => ?_) (fun h => ?_)
  · exact aw_sub [] rfl (w_X5_chance_34 hK hF h)
  · refine aw_iload_n hK 2 dX5_chance_10 rfl rfl ?_
    refine aw_callS_i (n := 1) hK (fun _ _ _ _ q => ct_X5_isTwo hK.zk q) (lw_S q1408 q1409 q102 q1410) (by decide +kernel) (by decide) rfl rfl (Nat.le_of_ble_eq_true rfl) dX5_chance_11 h (fun v4 L3 _ _ h => ?_)
    refine aw_if_eq (tgt := 34) hK dX5_chance_14 (by decide) h (fun h => ?_) (fun h => ?_)
    · exact aw_sub [] rfl (w_X5_chance_34 hK hF h)
    · refine aw_iload_n hK 3 dX5_chance_17 rfl rfl ?_
      refine aw_callS_i (n := 1) hK (fun _ _ _ _ q => ct_X5_isTwo hK.zk q) (lw_S q1408 q1409 q102 q1410) (by decide +kernel) (by decide) rfl rfl (Nat.le_of_ble_eq_true rfl) dX5_chance_18 h (fun v6 L5 _ _ h => ?_)
      refine aw_if_eq (tgt := 34) hK dX5_chance_21 (by decide) h (fun h => ?_) (fun h => ?_)
      · exact aw_sub [] rfl (w_X5_chance_34 hK hF h)
      · refine aw_aload_n hK 0 dX5_chance_24 rfl rfl ?_
        refine aw_iload_n hK 1 dX5_chance_25 rfl rfl ?_
        refine aw_iload_n hK 2 dX5_chance_26 rfl rfl ?_
        refine aw_iload_n hK 3 dX5_chance_27 rfl rfl ?_
        obtain ⟨hj, h⟩ := fw_is_h h
        refine aw_callV_l (n := 3) hK fw_c7 hj (fun _ _ _ _ q => ct_X5_chanceOf hK.zk q) (lw_V q1637 q1639 qs85 q102 q1640) (by decide +kernel) (by decide) rfl rfl (Nat.le_of_ble_eq_true rfl) dX5_chance_28 h (fun v8 L7 _ _ h => ?_)
        refine aw_goto (tgt := 39) hK dX5_chance_31 (by decide) ?_
        exact aw_lret hK dX5_chance_39 h hF
theorem ct_X5_chance {Z : fw_ZT} (hZ : fw_Zok Z) {j0 : Nat} {x1 : Int32} {x2 : Int32} {x3 : Int32} {L : LH} {r9 : Int64} {L9 : LH} {mc ms : Nat} (h : f_X5_chance j0 x1 x2 x3 L = some (r9, L9, mc, ms)) : Ct Z yX5_chance (ws_ yX5_chance cX5_chance 4 (some (.long))) 7 169 [aR (some j0), aI x1, aI x2, aI x3] L (some (aL r9)) L9 mc ms :=
  ct_of (own := RX5) hZ (by decide +kernel) rfl (Nat.le_of_ble_eq_true rfl) (fun K _ hK hF hini => w_X5_chance_0 hK hF h)
def f_X5_years (j0 : Nat) (x1 : Int32) (x2 : Int32) (x3 : Int32) (L : LH) : Rs Int32 :=
  fw_cl (f_X5_in x2 (nI 0) (nI 24) L) fun v2 L1 =>
  if v2 = 0 then (
    some ((-nI 2), L1, 0, 0)
  ) else (
    fw_cl (f_X5_isTwo x3 L1) fun v4 L3 =>
    if v4 = 0 then (
      some ((-nI 2), L3, 0, 0)
    ) else (
      fw_is 8 L3 j0 <|
      fw_cl (f_X5_yearsOf j0 x1 x2 x3 L3) fun v6 L5 =>
      some (v6, L5, 0, 0)
    )
  )
set_option maxHeartbeats 4000000 in
set_option maxRecDepth 100000 in
theorem w_X5_years_0 {K : Kx} {r9 : Int32} {L9 : LH} (hK : Ok K cX5_years 4 RX5 7 165) (hF : Fin K (some (.int)) (some (aI r9)) L9) {j0 : Nat} {x1 : Int32} {x2 : Int32} {x3 : Int32} {L : LH} {mc ms : Nat} (h : f_X5_years j0 x1 x2 x3 L = some (r9, L9, mc, ms)) : AW K L mc ms 0 [(0, aR (some j0)), (1, aI x1), (2, aI x2), (3, aI x3)] [] := by
  unfold f_X5_years at h
  refine aw_iload_n hK 2 dX5_years_0 rfl rfl ?_
  refine aw_iconst (v := (nI 0)) hK dX5_years_1 rfl ?_
  refine aw_bipush (v := (nI 24)) hK dX5_years_2 rfl ?_
  refine aw_callS_i (n := 3) hK (fun _ _ _ _ q => ct_X5_in hK.zk q) (lw_S q1343 q1344 q102 q1345) (by decide +kernel) (by decide) rfl rfl (Nat.le_of_ble_eq_true rfl) dX5_years_4 h (fun v2 L1 _ _ h => ?_)
  refine aw_if_eq (tgt := 27) hK dX5_years_7 (by decide) h (fun h => ?_) (fun h => ?_)
  · refine aw_bipush (v := (-nI 2)) hK dX5_years_27 rfl ?_
    exact aw_iret hK dX5_years_29 h hF
  · refine aw_iload_n hK 3 dX5_years_10 rfl rfl ?_
    refine aw_callS_i (n := 1) hK (fun _ _ _ _ q => ct_X5_isTwo hK.zk q) (lw_S q1408 q1409 q102 q1410) (by decide +kernel) (by decide) rfl rfl (Nat.le_of_ble_eq_true rfl) dX5_years_11 h (fun v4 L3 _ _ h => ?_)
    refine aw_if_eq (tgt := 27) hK dX5_years_14 (by decide) h (fun h => ?_) (fun h => ?_)
    · refine aw_bipush (v := (-nI 2)) hK dX5_years_27 rfl ?_
      exact aw_iret hK dX5_years_29 h hF
    · refine aw_aload_n hK 0 dX5_years_17 rfl rfl ?_
      refine aw_iload_n hK 1 dX5_years_18 rfl rfl ?_
      refine aw_iload_n hK 2 dX5_years_19 rfl rfl ?_
      refine aw_iload_n hK 3 dX5_years_20 rfl rfl ?_
      obtain ⟨hj, h⟩ := fw_is_h h
      refine aw_callV_i (n := 3) hK fw_c7 hj (fun _ _ _ _ q => ct_X5_yearsOf hK.zk q) (lw_V q1652 q1654 qs86 q102 q1655) (by decide +kernel) (by decide) rfl rfl (Nat.le_of_ble_eq_true rfl) dX5_years_21 h (fun v6 L5 _ _ h => ?_)
      refine aw_goto (tgt := 29) hK dX5_years_24 (by decide) ?_
      exact aw_iret hK dX5_years_29 h hF
theorem ct_X5_years {Z : fw_ZT} (hZ : fw_Zok Z) {j0 : Nat} {x1 : Int32} {x2 : Int32} {x3 : Int32} {L : LH} {r9 : Int32} {L9 : LH} {mc ms : Nat} (h : f_X5_years j0 x1 x2 x3 L = some (r9, L9, mc, ms)) : Ct Z yX5_years (ws_ yX5_years cX5_years 4 (some (.int))) 7 165 [aR (some j0), aI x1, aI x2, aI x3] L (some (aI r9)) L9 mc ms :=
  ct_of (own := RX5) hZ (by decide +kernel) rfl (Nat.le_of_ble_eq_true rfl) (fun K _ hK hF hini => w_X5_years_0 hK hF h)
def f_X5_write_31 : Nat → Nat → Int32 → Int32 → LH → Rs Int32
  | 0, _, _, _, _ => none
  | n + 1, j0, x1, x2, L =>
    fw_gR 8 L j0 43 fun r1 =>
    fw_nn r1 fun j2 =>
    fw_rd 100 L j2 x1 fun v3 =>
    if v3 ≤ x2 then (
      some (x2, L, 0, 0)
    ) else (
      if (nI 24) ≤ x2 then (
        some (x2, L, 0, 0)
      ) else (
        fw_gR 8 L j0 29 fun r4 =>
        fw_nn r4 fun j5 =>
        fw_rd 100 L j5 x2 fun v6 =>
        fw_is 8 L j0 <|
        fw_cl (f_X5_keep j0 x1 x2 v6 L) fun _ L7 =>
        f_X5_write_31 n j0 x1 (x2 + (nI 1)) L7
      )
    )
def f_X5_write (j0 : Nat) (x1 : Int32) (L : LH) : Rs Int32 :=
  fw_cl (f_X5_isSheet x1 L) fun v2 L1 =>
  if v2 = 0 then (
    some ((-nI 2), L1, 0, 0)
  ) else (
    fw_gR 8 L1 j0 41 fun r3 =>
    fw_nn r3 fun j4 =>
    fw_rd 103 L1 j4 x1 fun v5 =>
    if v5 = 0 then (
      fw_is 8 L1 j0 <|
      fw_cl (f_X5_meets j0 (nI 1) L1) fun v8 L7 =>
      some (v8, L7, 0, 0)
    ) else (
      fw_is 8 L1 j0 <|
      fw_cl (f_X5_runsTold j0 L1) fun _ L6 =>
      f_X5_write_31 fw_fuel j0 x1 (nI 0) L6
    )
  )
set_option maxHeartbeats 4000000 in
set_option maxRecDepth 100000 in
theorem w_X5_write_31 {K : Kx} {r9 : Int32} {L9 : LH} (hK : Ok K cX5_write 3 RX5 7 160) (hF : Fin K (some (.int)) (some (aI r9)) L9) : ∀ {n : Nat} {j0 : Nat} {x1 : Int32} {x2 : Int32} {L : LH} {mc ms : Nat}, f_X5_write_31 n j0 x1 x2 L = some (r9, L9, mc, ms) → AW K L mc ms 31 [(0, aR (some j0)), (1, aI x1), (2, aI x2)] [] := by
  intro n
  induction n with
  | zero =>
    intro j0 x1 x2 L mc ms h
    have h : (none : Rs Int32) = some (r9, L9, mc, ms) := h
    cases h
  | succ n ih =>
    intro j0 x1 x2 L mc ms h
    unfold f_X5_write_31 at h
    refine aw_iload_n hK 2 dX5_write_31 rfl rfl ?_
    refine aw_aload_n hK 0 dX5_write_32 rfl rfl ?_
    refine aw_gR hK fw_c7 43 (by decide) rfl q1236 (fun _ h9 => h9) dX5_write_33 h (fun r1 h => ?_)
    refine aw_iload_n hK 1 dX5_write_36 rfl rfl ?_
    obtain _ | j2 := r1
    · exact (fw_nn_no h).elim
    replace h := fw_nn_so h
    refine aw_iald hK dX5_write_37 h (fun v3 h => ?_)
    refine aw_icmp_ge (tgt := 65) hK dX5_write_38 (by decide) h (fun h => ?_) (fun h => ?_)
    · refine aw_iload_n hK 2 dX5_write_65 rfl rfl ?_
      exact aw_iret hK dX5_write_66 h hF
    · refine aw_iload_n hK 2 dX5_write_41 rfl rfl ?_
      refine aw_bipush (v := (nI 24)) hK dX5_write_42 rfl ?_
      refine aw_icmp_ge (tgt := 65) hK dX5_write_44 (by decide) h (fun h => ?_) (fun h => ?_)
      · refine aw_iload_n hK 2 dX5_write_65 rfl rfl ?_
        exact aw_iret hK dX5_write_66 h hF
      · refine aw_aload_n hK 0 dX5_write_47 rfl rfl ?_
        refine aw_iload_n hK 1 dX5_write_48 rfl rfl ?_
        refine aw_iload_n hK 2 dX5_write_49 rfl rfl ?_
        refine aw_aload_n hK 0 dX5_write_50 rfl rfl ?_
        refine aw_gR hK fw_c7 29 (by decide) rfl q1222 (fun _ h9 => h9) dX5_write_51 h (fun r4 h => ?_)
        refine aw_iload_n hK 2 dX5_write_54 rfl rfl ?_
        obtain _ | j5 := r4
        · exact (fw_nn_no h).elim
        replace h := fw_nn_so h
        refine aw_iald hK dX5_write_55 h (fun v6 h => ?_)
        obtain ⟨hj, h⟩ := fw_is_h h
        refine aw_callV_v (n := 3) hK fw_c7 hj (fun _ _ _ _ q => ct_X5_keep hK.zk q) (lw_V q1673 q1675 qs88 q102 q1676) (by decide +kernel) (by decide) rfl rfl (Nat.le_of_ble_eq_true rfl) dX5_write_56 h (fun _ L7 _ _ h => ?_)
        refine aw_iinc (v := (x2 + (nI 1))) (lv' := [(2, aI (x2 + (nI 1))), (0, aR (some j0)), (1, aI x1)]) hK 2 dX5_write_59 rfl rfl (by decide) rfl ?_
        refine aw_goto (tgt := 31) hK dX5_write_62 (by decide) ?_
        exact aw_sub [1, 2, 0] rfl (ih h)
set_option maxHeartbeats 4000000 in
set_option maxRecDepth 100000 in
theorem w_X5_write_0 {K : Kx} {r9 : Int32} {L9 : LH} (hK : Ok K cX5_write 3 RX5 7 160) (hF : Fin K (some (.int)) (some (aI r9)) L9) {j0 : Nat} {x1 : Int32} {L : LH} {mc ms : Nat} (h : f_X5_write j0 x1 L = some (r9, L9, mc, ms)) : AW K L mc ms 0 [(0, aR (some j0)), (1, aI x1)] [] := by
  unfold f_X5_write at h
  refine aw_iload_n hK 1 dX5_write_0 rfl rfl ?_
  refine aw_callS_i (n := 1) hK (fun _ _ _ _ q => ct_X5_isSheet hK.zk q) (lw_S q1434 q1435 q102 q1436) (by decide +kernel) (by decide) rfl rfl (Nat.le_of_ble_eq_true rfl) dX5_write_1 h (fun v2 L1 _ _ h => ?_)
  refine aw_if_ne (tgt := 10) hK dX5_write_4 (by decide) h (fun h => ?_) (fun h => ?_)
  · refine aw_aload_n hK 0 dX5_write_10 rfl rfl ?_
    refine aw_gR hK fw_c7 41 (by decide) rfl q1234 (fun _ h9 => h9) dX5_write_11 h (fun r3 h => ?_)
    refine aw_iload_n hK 1 dX5_write_14 rfl rfl ?_
    obtain _ | j4 := r3
    · exact (fw_nn_no h).elim
    replace h := fw_nn_so h
    refine aw_zald hK dX5_write_15 h (fun v5 h => ?_)
    refine aw_if_ne (tgt := 25) hK dX5_write_16 (by decide) h (fun h => ?_) (fun h => ?_)
    · refine aw_aload_n hK 0 dX5_write_25 rfl rfl ?_
      obtain ⟨hj, h⟩ := fw_is_h h
      refine aw_callV_v (n := 0) hK fw_c7 hj (fun _ _ _ _ q => ct_X5_runsTold hK.zk q) (lw_V q1450 q1452 qs56 q102 q1453) (by decide +kernel) (by decide) rfl rfl (Nat.le_of_ble_eq_true rfl) dX5_write_26 h (fun _ L6 _ _ h => ?_)
      refine aw_iconst (v := (nI 0)) hK dX5_write_29 rfl ?_
      refine aw_istore_n (lv' := [(2, aI (nI 0)), (0, aR (some j0)), (1, aI x1)]) hK dX5_write_30 rfl (by decide) rfl ?_
      exact aw_sub [1, 2, 0] rfl (w_X5_write_31 hK hF h)
    · refine aw_aload_n hK 0 dX5_write_19 rfl rfl ?_
      refine aw_iconst (v := (nI 1)) hK dX5_write_20 rfl ?_
      obtain ⟨hj, h⟩ := fw_is_h h
      refine aw_callV_i (n := 1) hK fw_c7 hj (fun _ _ _ _ q => ct_X5_meets hK.zk q) (lw_V q1437 q1439 qs54 q102 q1440) (by decide +kernel) (by decide) rfl rfl (Nat.le_of_ble_eq_true rfl) dX5_write_21 h (fun v8 L7 _ _ h => ?_)
      exact aw_iret hK dX5_write_24 h hF
  · refine aw_bipush (v := (-nI 2)) hK dX5_write_7 rfl ?_
    exact aw_iret hK dX5_write_9 h hF
theorem ct_X5_write {Z : fw_ZT} (hZ : fw_Zok Z) {j0 : Nat} {x1 : Int32} {L : LH} {r9 : Int32} {L9 : LH} {mc ms : Nat} (h : f_X5_write j0 x1 L = some (r9, L9, mc, ms)) : Ct Z yX5_write (ws_ yX5_write cX5_write 3 (some (.int))) 7 160 [aR (some j0), aI x1] L (some (aI r9)) L9 mc ms :=
  ct_of (own := RX5) hZ (by decide +kernel) rfl (Nat.le_of_ble_eq_true rfl) (fun K _ hK hF hini => w_X5_write_0 hK hF h)
def f_X5_tellOf (j0 : Nat) (x1 : Int32) (L : LH) : Rs Int32 :=
  fw_is 8 L j0 <|
  fw_cl (f_X5_runsTold j0 L) fun _ L1 =>
  if (nI 2) ≤ x1 then (
    if (nI 4) ≤ x1 then (
      fw_gI 8 L1 j0 21 fun v2 =>
      some (v2, L1, 0, 0)
    ) else (
      fw_gR 8 L1 j0 6 fun r3 =>
      fw_nn r3 fun j4 =>
      fw_rd 100 L1 j4 (x1 - (nI 2)) fun v5 =>
      some (v5, L1, 0, 0)
    )
  ) else (
    fw_gR 8 L1 j0 2 fun r6 =>
    fw_nn r6 fun j7 =>
    fw_rd 100 L1 j7 x1 fun v8 =>
    some (v8, L1, 0, 0)
  )
set_option maxHeartbeats 4000000 in
set_option maxRecDepth 100000 in
theorem w_X5_tellOf_0 {K : Kx} {r9 : Int32} {L9 : LH} (hK : Ok K cX5_tellOf 2 RX5 7 160) (hF : Fin K (some (.int)) (some (aI r9)) L9) {j0 : Nat} {x1 : Int32} {L : LH} {mc ms : Nat} (h : f_X5_tellOf j0 x1 L = some (r9, L9, mc, ms)) : AW K L mc ms 0 [(0, aR (some j0)), (1, aI x1)] [] := by
  unfold f_X5_tellOf at h
  refine aw_aload_n hK 0 dX5_tellOf_0 rfl rfl ?_
  obtain ⟨hj, h⟩ := fw_is_h h
  refine aw_callV_v (n := 0) hK fw_c7 hj (fun _ _ _ _ q => ct_X5_runsTold hK.zk q) (lw_V q1450 q1452 qs56 q102 q1453) (by decide +kernel) (by decide) rfl rfl (Nat.le_of_ble_eq_true rfl) dX5_tellOf_1 h (fun _ L1 _ _ h => ?_)
  refine aw_iload_n hK 1 dX5_tellOf_4 rfl rfl ?_
  refine aw_iconst (v := (nI 2)) hK dX5_tellOf_5 rfl ?_
  refine aw_icmp_ge (tgt := 18) hK dX5_tellOf_6 (by decide) h (fun h => ?_) (fun h => ?_)
  · refine aw_iload_n hK 1 dX5_tellOf_18 rfl rfl ?_
    refine aw_iconst (v := (nI 4)) hK dX5_tellOf_19 rfl ?_
    refine aw_icmp_ge (tgt := 34) hK dX5_tellOf_20 (by decide) h (fun h => ?_) (fun h => ?_)
    · refine aw_aload_n hK 0 dX5_tellOf_34 rfl rfl ?_
      refine aw_gI hK fw_c7 21 (by decide) rfl q1214 (fun _ h9 => h9) dX5_tellOf_35 h (fun v2 h => ?_)
      exact aw_iret hK dX5_tellOf_38 h hF
    · refine aw_aload_n hK 0 dX5_tellOf_23 rfl rfl ?_
      refine aw_gR hK fw_c7 6 (by decide) rfl q1199 (fun _ h9 => h9) dX5_tellOf_24 h (fun r3 h => ?_)
      refine aw_iload_n hK 1 dX5_tellOf_27 rfl rfl ?_
      refine aw_iconst (v := (nI 2)) hK dX5_tellOf_28 rfl ?_
      refine aw_isub hK dX5_tellOf_29 ?_
      obtain _ | j4 := r3
      · exact (fw_nn_no h).elim
      replace h := fw_nn_so h
      refine aw_iald hK dX5_tellOf_30 h (fun v5 h => ?_)
      refine aw_goto (tgt := 38) hK dX5_tellOf_31 (by decide) ?_
      exact aw_iret hK dX5_tellOf_38 h hF
  · refine aw_aload_n hK 0 dX5_tellOf_9 rfl rfl ?_
    refine aw_gR hK fw_c7 2 (by decide) rfl q1195 (fun _ h9 => h9) dX5_tellOf_10 h (fun r6 h => ?_)
    refine aw_iload_n hK 1 dX5_tellOf_13 rfl rfl ?_
    obtain _ | j7 := r6
    · exact (fw_nn_no h).elim
    replace h := fw_nn_so h
    refine aw_iald hK dX5_tellOf_14 h (fun v8 h => ?_)
    refine aw_goto (tgt := 38) hK dX5_tellOf_15 (by decide) ?_
    exact aw_iret hK dX5_tellOf_38 h hF
theorem ct_X5_tellOf {Z : fw_ZT} (hZ : fw_Zok Z) {j0 : Nat} {x1 : Int32} {L : LH} {r9 : Int32} {L9 : LH} {mc ms : Nat} (h : f_X5_tellOf j0 x1 L = some (r9, L9, mc, ms)) : Ct Z yX5_tellOf (ws_ yX5_tellOf cX5_tellOf 2 (some (.int))) 7 160 [aR (some j0), aI x1] L (some (aI r9)) L9 mc ms :=
  ct_of (own := RX5) hZ (by decide +kernel) rfl (Nat.le_of_ble_eq_true rfl) (fun K _ hK hF hini => w_X5_tellOf_0 hK hF h)
def f_X5_beatDigest (j0 : Nat) (y1 : Int64) (x3 : Int32) (x4 : Int32) (L : LH) : Rs Int64 :=
  fw_is 8 L j0 <|
  fw_cl (f_X5_atOf j0 x3 x4 (nI 0) L) fun v2 L1 =>
  fw_is 8 L1 j0 <|
  fw_cl (f_X5_atOf j0 x3 x4 (nI 1) L1) fun v4 L3 =>
  some ((((31 : Int64) * (((31 : Int64) * y1) + v2.toInt64)) + v4.toInt64), L3, 0, 0)
set_option maxHeartbeats 4000000 in
set_option maxRecDepth 100000 in
theorem w_X5_beatDigest_0 {K : Kx} {r9 : Int64} {L9 : LH} (hK : Ok K cX5_beatDigest 7 RX5 8 183) (hF : Fin K (some (.long)) (some (aL r9)) L9) {j0 : Nat} {y1 : Int64} {x3 : Int32} {x4 : Int32} {L : LH} {mc ms : Nat} (h : f_X5_beatDigest j0 y1 x3 x4 L = some (r9, L9, mc, ms)) : AW K L mc ms 0 [(0, aR (some j0)), (1, aL y1), (3, aI x3), (4, aI x4)] [] := by
  unfold f_X5_beatDigest at h
  refine aw_ldc2 (v := 31) hK q1703 dX5_beatDigest_0 ?_
  refine aw_lload_n hK 1 dX5_beatDigest_3 rfl rfl ?_
  refine aw_lmul hK dX5_beatDigest_4 ?_
  refine aw_aload_n hK 0 dX5_beatDigest_5 rfl rfl ?_
  refine aw_iload_n hK 2 dX5_beatDigest_6 rfl rfl ?_
  refine aw_iload hK 3 dX5_beatDigest_7 rfl ?_
  refine aw_iconst (v := (nI 0)) hK dX5_beatDigest_9 rfl ?_
  obtain ⟨hj, h⟩ := fw_is_h h
  refine aw_callV_i (n := 3) hK fw_c7 hj (fun _ _ _ _ q => ct_X5_atOf hK.zk q) (lw_V q1493 q1495 qs65 q102 q1496) (by decide +kernel) (by decide) rfl rfl (Nat.le_of_ble_eq_true rfl) dX5_beatDigest_10 h (fun v2 L1 _ _ h => ?_)
  refine aw_i2l hK dX5_beatDigest_13 ?_
  refine aw_ladd hK dX5_beatDigest_14 ?_
  refine aw_lstore (lv' := [(5, aL (((31 : Int64) * y1) + v2.toInt64)), (0, aR (some j0)), (1, aL y1), (3, aI x3), (4, aI x4)]) hK dX5_beatDigest_15 (by decide) rfl ?_
  refine aw_ldc2 (v := 31) hK q1703 dX5_beatDigest_17 ?_
  refine aw_lload hK 0 dX5_beatDigest_20 rfl ?_
  refine aw_lmul hK dX5_beatDigest_22 ?_
  refine aw_aload_n hK 1 dX5_beatDigest_23 rfl rfl ?_
  refine aw_iload_n hK 3 dX5_beatDigest_24 rfl rfl ?_
  refine aw_iload hK 4 dX5_beatDigest_25 rfl ?_
  refine aw_iconst (v := (nI 1)) hK dX5_beatDigest_27 rfl ?_
  obtain ⟨hj, h⟩ := fw_is_h h
  refine aw_callV_i (n := 3) hK fw_c7 hj (fun _ _ _ _ q => ct_X5_atOf hK.zk q) (lw_V q1493 q1495 qs65 q102 q1496) (by decide +kernel) (by decide) rfl rfl (Nat.le_of_ble_eq_true rfl) dX5_beatDigest_28 h (fun v4 L3 _ _ h => ?_)
  refine aw_i2l hK dX5_beatDigest_31 ?_
  refine aw_ladd hK dX5_beatDigest_32 ?_
  exact aw_lret hK dX5_beatDigest_33 h hF
theorem ct_X5_beatDigest {Z : fw_ZT} (hZ : fw_Zok Z) {j0 : Nat} {y1 : Int64} {x3 : Int32} {x4 : Int32} {L : LH} {r9 : Int64} {L9 : LH} {mc ms : Nat} (h : f_X5_beatDigest j0 y1 x3 x4 L = some (r9, L9, mc, ms)) : Ct Z yX5_beatDigest (ws_ yX5_beatDigest cX5_beatDigest 7 (some (.long))) 8 183 [aR (some j0), aL y1, aI x3, aI x4] L (some (aL r9)) L9 mc ms :=
  ct_of (own := RX5) hZ (by decide +kernel) rfl (Nat.le_of_ble_eq_true rfl) (fun K _ hK hF hini => w_X5_beatDigest_0 hK hF h)
def f_X5_teamDigest_36 : Nat → Nat → Int32 → Int64 → Int32 → LH → Rs Int64
  | 0, _, _, _, _, _ => none
  | n + 1, j0, x3, y4, x6, L =>
    if (nI 3) ≤ x6 then (
      fw_is 8 L j0 <|
      fw_cl (f_X5_outOf j0 x3 (nI 0) L) fun v2 L1 =>
      fw_is 8 L1 j0 <|
      fw_cl (f_X5_outOf j0 x3 (nI 1) L1) fun v4 L3 =>
      fw_is 8 L3 j0 <|
      fw_cl (f_X5_chanceOf j0 (nI 5) x3 (nI 0) L3) fun v6 L5 =>
      fw_is 8 L5 j0 <|
      fw_cl (f_X5_chanceOf j0 (nI 5) x3 (nI 1) L5) fun v8 L7 =>
      some ((((31 : Int64) * (((31 : Int64) * (((31 : Int64) * (((31 : Int64) * y4) + v2.toInt64)) + v4.toInt64)) + v6)) + v8), L7, 0, 0)
    ) else (
      fw_is 8 L j0 <|
      fw_cl (f_X5_swapOf j0 x3 x6 L) fun v10 L9 =>
      f_X5_teamDigest_36 n j0 x3 (((31 : Int64) * y4) + v10.toInt64) (x6 + (nI 1)) L9
    )
def f_X5_teamDigest (j0 : Nat) (y1 : Int64) (x3 : Int32) (L : LH) : Rs Int64 :=
  fw_is 8 L j0 <|
  fw_cl (f_X5_betterOf j0 x3 (nI 4) (nI 0) L) fun v2 L1 =>
  fw_is 8 L1 j0 <|
  fw_cl (f_X5_betterOf j0 x3 (nI 4) (nI 1) L1) fun v4 L3 =>
  f_X5_teamDigest_36 fw_fuel j0 x3 (((31 : Int64) * (((31 : Int64) * y1) + v2.toInt64)) + v4.toInt64) (nI 0) L3
set_option maxHeartbeats 4000000 in
set_option maxRecDepth 100000 in
theorem w_X5_teamDigest_36 {K : Kx} {r9 : Int64} {L9 : LH} (hK : Ok K cX5_teamDigest 7 RX5 8 185) (hF : Fin K (some (.long)) (some (aL r9)) L9) : ∀ {n : Nat} {j0 : Nat} {x3 : Int32} {y4 : Int64} {x6 : Int32} {L : LH} {mc ms : Nat}, f_X5_teamDigest_36 n j0 x3 y4 x6 L = some (r9, L9, mc, ms) → AW K L mc ms 36 [(0, aR (some j0)), (3, aI x3), (4, aL y4), (6, aI x6)] [] := by
  intro n
  induction n with
  | zero =>
    intro j0 x3 y4 x6 L mc ms h
    have h : (none : Rs Int64) = some (r9, L9, mc, ms) := h
    cases h
  | succ n ih =>
    intro j0 x3 y4 x6 L mc ms h
    unfold f_X5_teamDigest_36 at h
    refine aw_iload hK 3 dX5_teamDigest_36 rfl ?_
    refine aw_iconst (v := (nI 3)) hK dX5_teamDigest_38 rfl ?_
    refine aw_icmp_ge (tgt := 65) hK dX5_teamDigest_39 (by decide) h (fun h => ?_) (fun h => ?_)
    · refine aw_ldc2 (v := 31) hK q1703 dX5_teamDigest_65 ?_
      refine aw_lload hK 2 dX5_teamDigest_68 rfl ?_
      refine aw_lmul hK dX5_teamDigest_70 ?_
      refine aw_aload_n hK 0 dX5_teamDigest_71 rfl rfl ?_
      refine aw_iload_n hK 1 dX5_teamDigest_72 rfl rfl ?_
      refine aw_iconst (v := (nI 0)) hK dX5_teamDigest_73 rfl ?_
      obtain ⟨hj, h⟩ := fw_is_h h
      refine aw_callV_i (n := 2) hK fw_c7 hj (fun _ _ _ _ q => ct_X5_outOf hK.zk q) (lw_V q1573 q1575 qs76 q102 q1576) (by decide +kernel) (by decide) rfl rfl (Nat.le_of_ble_eq_true rfl) dX5_teamDigest_74 h (fun v2 L1 _ _ h => ?_)
      refine aw_i2l hK dX5_teamDigest_77 ?_
      refine aw_ladd hK dX5_teamDigest_78 ?_
      refine aw_lstore (lv' := [(4, aL (((31 : Int64) * y4) + v2.toInt64)), (0, aR (some j0)), (3, aI x3), (6, aI x6)]) hK dX5_teamDigest_79 (by decide) rfl ?_
      refine aw_ldc2 (v := 31) hK q1703 dX5_teamDigest_81 ?_
      refine aw_lload hK 0 dX5_teamDigest_84 rfl ?_
      refine aw_lmul hK dX5_teamDigest_86 ?_
      refine aw_aload_n hK 1 dX5_teamDigest_87 rfl rfl ?_
      refine aw_iload_n hK 2 dX5_teamDigest_88 rfl rfl ?_
      refine aw_iconst (v := (nI 1)) hK dX5_teamDigest_89 rfl ?_
      obtain ⟨hj, h⟩ := fw_is_h h
      refine aw_callV_i (n := 2) hK fw_c7 hj (fun _ _ _ _ q => ct_X5_outOf hK.zk q) (lw_V q1573 q1575 qs76 q102 q1576) (by decide +kernel) (by decide) rfl rfl (Nat.le_of_ble_eq_true rfl) dX5_teamDigest_90 h (fun v4 L3 _ _ h => ?_)
      refine aw_i2l hK dX5_teamDigest_93 ?_
      refine aw_ladd hK dX5_teamDigest_94 ?_
      refine aw_lstore (lv' := [(4, aL (((31 : Int64) * (((31 : Int64) * y4) + v2.toInt64)) + v4.toInt64)), (0, aR (some j0)), (3, aI x3), (6, aI x6)]) hK dX5_teamDigest_95 (by decide) rfl ?_
      refine aw_ldc2 (v := 31) hK q1703 dX5_teamDigest_97 ?_
      refine aw_lload hK 0 dX5_teamDigest_100 rfl ?_
      refine aw_lmul hK dX5_teamDigest_102 ?_
      refine aw_aload_n hK 1 dX5_teamDigest_103 rfl rfl ?_
      refine aw_iconst (v := (nI 5)) hK dX5_teamDigest_104 rfl ?_
      refine aw_iload_n hK 2 dX5_teamDigest_105 rfl rfl ?_
      refine aw_iconst (v := (nI 0)) hK dX5_teamDigest_106 rfl ?_
      obtain ⟨hj, h⟩ := fw_is_h h
      refine aw_callV_l (n := 3) hK fw_c7 hj (fun _ _ _ _ q => ct_X5_chanceOf hK.zk q) (lw_V q1637 q1639 qs85 q102 q1640) (by decide +kernel) (by decide) rfl rfl (Nat.le_of_ble_eq_true rfl) dX5_teamDigest_107 h (fun v6 L5 _ _ h => ?_)
      refine aw_ladd hK dX5_teamDigest_110 ?_
      refine aw_lstore (lv' := [(4, aL (((31 : Int64) * (((31 : Int64) * (((31 : Int64) * y4) + v2.toInt64)) + v4.toInt64)) + v6)), (0, aR (some j0)), (3, aI x3), (6, aI x6)]) hK dX5_teamDigest_111 (by decide) rfl ?_
      refine aw_ldc2 (v := 31) hK q1703 dX5_teamDigest_113 ?_
      refine aw_lload hK 0 dX5_teamDigest_116 rfl ?_
      refine aw_lmul hK dX5_teamDigest_118 ?_
      refine aw_aload_n hK 1 dX5_teamDigest_119 rfl rfl ?_
      refine aw_iconst (v := (nI 5)) hK dX5_teamDigest_120 rfl ?_
      refine aw_iload_n hK 2 dX5_teamDigest_121 rfl rfl ?_
      refine aw_iconst (v := (nI 1)) hK dX5_teamDigest_122 rfl ?_
      obtain ⟨hj, h⟩ := fw_is_h h
      refine aw_callV_l (n := 3) hK fw_c7 hj (fun _ _ _ _ q => ct_X5_chanceOf hK.zk q) (lw_V q1637 q1639 qs85 q102 q1640) (by decide +kernel) (by decide) rfl rfl (Nat.le_of_ble_eq_true rfl) dX5_teamDigest_123 h (fun v8 L7 _ _ h => ?_)
      refine aw_ladd hK dX5_teamDigest_126 ?_
      exact aw_lret hK dX5_teamDigest_127 h hF
    · refine aw_ldc2 (v := 31) hK q1703 dX5_teamDigest_42 ?_
      refine aw_lload hK 2 dX5_teamDigest_45 rfl ?_
      refine aw_lmul hK dX5_teamDigest_47 ?_
      refine aw_aload_n hK 0 dX5_teamDigest_48 rfl rfl ?_
      refine aw_iload_n hK 1 dX5_teamDigest_49 rfl rfl ?_
      refine aw_iload hK 3 dX5_teamDigest_50 rfl ?_
      obtain ⟨hj, h⟩ := fw_is_h h
      refine aw_callV_i (n := 2) hK fw_c7 hj (fun _ _ _ _ q => ct_X5_swapOf hK.zk q) (lw_V q1565 q1567 qs75 q102 q1568) (by decide +kernel) (by decide) rfl rfl (Nat.le_of_ble_eq_true rfl) dX5_teamDigest_52 h (fun v10 L9 _ _ h => ?_)
      refine aw_i2l hK dX5_teamDigest_55 ?_
      refine aw_ladd hK dX5_teamDigest_56 ?_
      refine aw_lstore (lv' := [(4, aL (((31 : Int64) * y4) + v10.toInt64)), (0, aR (some j0)), (3, aI x3), (6, aI x6)]) hK dX5_teamDigest_57 (by decide) rfl ?_
      refine aw_iinc (v := (x6 + (nI 1))) (lv' := [(6, aI (x6 + (nI 1))), (4, aL (((31 : Int64) * y4) + v10.toInt64)), (0, aR (some j0)), (3, aI x3)]) hK 3 dX5_teamDigest_59 rfl rfl (by decide) rfl ?_
      refine aw_goto (tgt := 36) hK dX5_teamDigest_62 (by decide) ?_
      exact aw_sub [2, 3, 1, 0] rfl (ih h)
set_option maxHeartbeats 4000000 in
set_option maxRecDepth 100000 in
theorem w_X5_teamDigest_0 {K : Kx} {r9 : Int64} {L9 : LH} (hK : Ok K cX5_teamDigest 7 RX5 8 185) (hF : Fin K (some (.long)) (some (aL r9)) L9) {j0 : Nat} {y1 : Int64} {x3 : Int32} {L : LH} {mc ms : Nat} (h : f_X5_teamDigest j0 y1 x3 L = some (r9, L9, mc, ms)) : AW K L mc ms 0 [(0, aR (some j0)), (1, aL y1), (3, aI x3)] [] := by
  unfold f_X5_teamDigest at h
  refine aw_ldc2 (v := 31) hK q1703 dX5_teamDigest_0 ?_
  refine aw_lload_n hK 1 dX5_teamDigest_3 rfl rfl ?_
  refine aw_lmul hK dX5_teamDigest_4 ?_
  refine aw_aload_n hK 0 dX5_teamDigest_5 rfl rfl ?_
  refine aw_iload_n hK 2 dX5_teamDigest_6 rfl rfl ?_
  refine aw_iconst (v := (nI 4)) hK dX5_teamDigest_7 rfl ?_
  refine aw_iconst (v := (nI 0)) hK dX5_teamDigest_8 rfl ?_
  obtain ⟨hj, h⟩ := fw_is_h h
  refine aw_callV_i (n := 3) hK fw_c7 hj (fun _ _ _ _ q => ct_X5_betterOf hK.zk q) (lw_V q1549 q1551 qs72 q102 q1552) (by decide +kernel) (by decide) rfl rfl (Nat.le_of_ble_eq_true rfl) dX5_teamDigest_9 h (fun v2 L1 _ _ h => ?_)
  refine aw_i2l hK dX5_teamDigest_12 ?_
  refine aw_ladd hK dX5_teamDigest_13 ?_
  refine aw_lstore (lv' := [(4, aL (((31 : Int64) * y1) + v2.toInt64)), (0, aR (some j0)), (1, aL y1), (3, aI x3)]) hK dX5_teamDigest_14 (by decide) rfl ?_
  refine aw_ldc2 (v := 31) hK q1703 dX5_teamDigest_16 ?_
  refine aw_lload hK 0 dX5_teamDigest_19 rfl ?_
  refine aw_lmul hK dX5_teamDigest_21 ?_
  refine aw_aload_n hK 1 dX5_teamDigest_22 rfl rfl ?_
  refine aw_iload_n hK 3 dX5_teamDigest_23 rfl rfl ?_
  refine aw_iconst (v := (nI 4)) hK dX5_teamDigest_24 rfl ?_
  refine aw_iconst (v := (nI 1)) hK dX5_teamDigest_25 rfl ?_
  obtain ⟨hj, h⟩ := fw_is_h h
  refine aw_callV_i (n := 3) hK fw_c7 hj (fun _ _ _ _ q => ct_X5_betterOf hK.zk q) (lw_V q1549 q1551 qs72 q102 q1552) (by decide +kernel) (by decide) rfl rfl (Nat.le_of_ble_eq_true rfl) dX5_teamDigest_26 h (fun v4 L3 _ _ h => ?_)
  refine aw_i2l hK dX5_teamDigest_29 ?_
  refine aw_ladd hK dX5_teamDigest_30 ?_
  refine aw_lstore (lv' := [(4, aL (((31 : Int64) * (((31 : Int64) * y1) + v2.toInt64)) + v4.toInt64)), (0, aR (some j0)), (1, aL y1), (3, aI x3)]) hK dX5_teamDigest_31 (by decide) rfl ?_
  refine aw_iconst (v := (nI 0)) hK dX5_teamDigest_33 rfl ?_
  refine aw_istore (lv' := [(6, aI (nI 0)), (4, aL (((31 : Int64) * (((31 : Int64) * y1) + v2.toInt64)) + v4.toInt64)), (0, aR (some j0)), (1, aL y1), (3, aI x3)]) hK dX5_teamDigest_34 (by decide) rfl ?_
  exact aw_sub [2, 4, 1, 0] rfl (w_X5_teamDigest_36 hK hF h)
theorem ct_X5_teamDigest {Z : fw_ZT} (hZ : fw_Zok Z) {j0 : Nat} {y1 : Int64} {x3 : Int32} {L : LH} {r9 : Int64} {L9 : LH} {mc ms : Nat} (h : f_X5_teamDigest j0 y1 x3 L = some (r9, L9, mc, ms)) : Ct Z yX5_teamDigest (ws_ yX5_teamDigest cX5_teamDigest 7 (some (.long))) 8 185 [aR (some j0), aL y1, aI x3] L (some (aL r9)) L9 mc ms :=
  ct_of (own := RX5) hZ (by decide +kernel) rfl (Nat.le_of_ble_eq_true rfl) (fun K _ hK hF hini => w_X5_teamDigest_0 hK hF h)
def f_X5_puller (j0 : Nat) (x1 : Int32) (x2 : Int32) (L : LH) : Rs Int32 :=
  fw_is 8 L j0 <|
  fw_cl (f_X5_isPuller j0 x1 L) fun v2 L1 =>
  if v2 = 0 then (
    some ((-nI 2), L1, 0, 0)
  ) else (
    fw_cl (f_X5_isThree x2 L1) fun v4 L3 =>
    if v4 = 0 then (
      some ((-nI 2), L3, 0, 0)
    ) else (
      fw_is 8 L3 j0 <|
      fw_cl (f_X5_pullerOf j0 x1 x2 L3) fun v6 L5 =>
      some (v6, L5, 0, 0)
    )
  )
set_option maxHeartbeats 4000000 in
set_option maxRecDepth 100000 in
theorem w_X5_puller_0 {K : Kx} {r9 : Int32} {L9 : LH} (hK : Ok K cX5_puller 3 RX5 6 140) (hF : Fin K (some (.int)) (some (aI r9)) L9) {j0 : Nat} {x1 : Int32} {x2 : Int32} {L : LH} {mc ms : Nat} (h : f_X5_puller j0 x1 x2 L = some (r9, L9, mc, ms)) : AW K L mc ms 0 [(0, aR (some j0)), (1, aI x1), (2, aI x2)] [] := by
  unfold f_X5_puller at h
  refine aw_aload_n hK 0 dX5_puller_0 rfl rfl ?_
  refine aw_iload_n hK 1 dX5_puller_1 rfl rfl ?_
  obtain ⟨hj, h⟩ := fw_is_h h
  refine aw_callV_i (n := 1) hK fw_c7 hj (fun _ _ _ _ q => ct_X5_isPuller hK.zk q) (lw_V q1385 q1387 qs49 q102 q1388) (by decide +kernel) (by decide) rfl rfl (Nat.le_of_ble_eq_true rfl) dX5_puller_2 h (fun v2 L1 _ _ h => ?_)
  refine aw_if_eq (tgt := 24) hK dX5_puller_5 (by decide) h (fun h => ?_) (fun h => ?_)
  · refine aw_bipush (v := (-nI 2)) hK dX5_puller_24 rfl ?_
    exact aw_iret hK dX5_puller_26 h hF
  · refine aw_iload_n hK 2 dX5_puller_8 rfl rfl ?_
    refine aw_callS_i (n := 1) hK (fun _ _ _ _ q => ct_X5_isThree hK.zk q) (lw_S q1397 q1398 q102 q1399) (by decide +kernel) (by decide) rfl rfl (Nat.le_of_ble_eq_true rfl) dX5_puller_9 h (fun v4 L3 _ _ h => ?_)
    refine aw_if_eq (tgt := 24) hK dX5_puller_12 (by decide) h (fun h => ?_) (fun h => ?_)
    · refine aw_bipush (v := (-nI 2)) hK dX5_puller_24 rfl ?_
      exact aw_iret hK dX5_puller_26 h hF
    · refine aw_aload_n hK 0 dX5_puller_15 rfl rfl ?_
      refine aw_iload_n hK 1 dX5_puller_16 rfl rfl ?_
      refine aw_iload_n hK 2 dX5_puller_17 rfl rfl ?_
      obtain ⟨hj, h⟩ := fw_is_h h
      refine aw_callV_i (n := 2) hK fw_c7 hj (fun _ _ _ _ q => ct_X5_pullerOf hK.zk q) (lw_V q1400 q1402 qs52 q102 q1403) (by decide +kernel) (by decide) rfl rfl (Nat.le_of_ble_eq_true rfl) dX5_puller_18 h (fun v6 L5 _ _ h => ?_)
      refine aw_goto (tgt := 26) hK dX5_puller_21 (by decide) ?_
      exact aw_iret hK dX5_puller_26 h hF
theorem ct_X5_puller {Z : fw_ZT} (hZ : fw_Zok Z) {j0 : Nat} {x1 : Int32} {x2 : Int32} {L : LH} {r9 : Int32} {L9 : LH} {mc ms : Nat} (h : f_X5_puller j0 x1 x2 L = some (r9, L9, mc, ms)) : Ct Z yX5_puller (ws_ yX5_puller cX5_puller 3 (some (.int))) 6 140 [aR (some j0), aI x1, aI x2] L (some (aI r9)) L9 mc ms :=
  ct_of (own := RX5) hZ (by decide +kernel) rfl (Nat.le_of_ble_eq_true rfl) (fun K _ hK hF hini => w_X5_puller_0 hK hF h)
def f_X5_ropeOf (j0 : Nat) (x1 : Int32) (x2 : Int32) (L : LH) : Rs Int32 :=
  fw_is 8 L j0 <|
  fw_cl (f_X5_runsTold j0 L) fun _ L1 =>
  if x2 = 0 then (
    fw_gR 8 L1 j0 29 fun r8 =>
    fw_nn r8 fun j9 =>
    fw_rd 100 L1 j9 x1 fun v10 =>
    some (v10, L1, 0, 0)
  ) else (
    if x2 = (nI 3) then (
      fw_gR 8 L1 j0 30 fun r5 =>
      fw_nn r5 fun j6 =>
      fw_rd 100 L1 j6 x1 fun v7 =>
      some (v7, L1, 0, 0)
    ) else (
      fw_gR 8 L1 j0 31 fun r2 =>
      fw_nn r2 fun j3 =>
      fw_rd 100 L1 j3 ((((nI 2) * x1) + x2) - (nI 1)) fun v4 =>
      some (v4, L1, 0, 0)
    )
  )
set_option maxHeartbeats 4000000 in
set_option maxRecDepth 100000 in
theorem w_X5_ropeOf_0 {K : Kx} {r9 : Int32} {L9 : LH} (hK : Ok K cX5_ropeOf 3 RX5 7 160) (hF : Fin K (some (.int)) (some (aI r9)) L9) {j0 : Nat} {x1 : Int32} {x2 : Int32} {L : LH} {mc ms : Nat} (h : f_X5_ropeOf j0 x1 x2 L = some (r9, L9, mc, ms)) : AW K L mc ms 0 [(0, aR (some j0)), (1, aI x1), (2, aI x2)] [] := by
  unfold f_X5_ropeOf at h
  refine aw_aload_n hK 0 dX5_ropeOf_0 rfl rfl ?_
  obtain ⟨hj, h⟩ := fw_is_h h
  refine aw_callV_v (n := 0) hK fw_c7 hj (fun _ _ _ _ q => ct_X5_runsTold hK.zk q) (lw_V q1450 q1452 qs56 q102 q1453) (by decide +kernel) (by decide) rfl rfl (Nat.le_of_ble_eq_true rfl) dX5_ropeOf_1 h (fun _ L1 _ _ h => ?_)
  refine aw_iload_n hK 2 dX5_ropeOf_4 rfl rfl ?_
  refine aw_if_ne (tgt := 17) hK dX5_ropeOf_5 (by decide) h (fun h => ?_) (fun h => ?_)
  · refine aw_iload_n hK 2 dX5_ropeOf_17 rfl rfl ?_
    refine aw_iconst (v := (nI 3)) hK dX5_ropeOf_18 rfl ?_
    refine aw_icmp_ne (tgt := 31) hK dX5_ropeOf_19 (by decide) h (fun h => ?_) (fun h => ?_)
    · refine aw_aload_n hK 0 dX5_ropeOf_31 rfl rfl ?_
      refine aw_gR hK fw_c7 31 (by decide) rfl q1224 (fun _ h9 => h9) dX5_ropeOf_32 h (fun r2 h => ?_)
      refine aw_iconst (v := (nI 2)) hK dX5_ropeOf_35 rfl ?_
      refine aw_iload_n hK 1 dX5_ropeOf_36 rfl rfl ?_
      refine aw_imul hK dX5_ropeOf_37 ?_
      refine aw_iload_n hK 2 dX5_ropeOf_38 rfl rfl ?_
      refine aw_iadd hK dX5_ropeOf_39 ?_
      refine aw_iconst (v := (nI 1)) hK dX5_ropeOf_40 rfl ?_
      refine aw_isub hK dX5_ropeOf_41 ?_
      obtain _ | j3 := r2
      · exact (fw_nn_no h).elim
      replace h := fw_nn_so h
      refine aw_iald hK dX5_ropeOf_42 h (fun v4 h => ?_)
      exact aw_iret hK dX5_ropeOf_43 h hF
    · refine aw_aload_n hK 0 dX5_ropeOf_22 rfl rfl ?_
      refine aw_gR hK fw_c7 30 (by decide) rfl q1223 (fun _ h9 => h9) dX5_ropeOf_23 h (fun r5 h => ?_)
      refine aw_iload_n hK 1 dX5_ropeOf_26 rfl rfl ?_
      obtain _ | j6 := r5
      · exact (fw_nn_no h).elim
      replace h := fw_nn_so h
      refine aw_iald hK dX5_ropeOf_27 h (fun v7 h => ?_)
      refine aw_goto (tgt := 43) hK dX5_ropeOf_28 (by decide) ?_
      exact aw_iret hK dX5_ropeOf_43 h hF
  · refine aw_aload_n hK 0 dX5_ropeOf_8 rfl rfl ?_
    refine aw_gR hK fw_c7 29 (by decide) rfl q1222 (fun _ h9 => h9) dX5_ropeOf_9 h (fun r8 h => ?_)
    refine aw_iload_n hK 1 dX5_ropeOf_12 rfl rfl ?_
    obtain _ | j9 := r8
    · exact (fw_nn_no h).elim
    replace h := fw_nn_so h
    refine aw_iald hK dX5_ropeOf_13 h (fun v10 h => ?_)
    refine aw_goto (tgt := 43) hK dX5_ropeOf_14 (by decide) ?_
    exact aw_iret hK dX5_ropeOf_43 h hF
theorem ct_X5_ropeOf {Z : fw_ZT} (hZ : fw_Zok Z) {j0 : Nat} {x1 : Int32} {x2 : Int32} {L : LH} {r9 : Int32} {L9 : LH} {mc ms : Nat} (h : f_X5_ropeOf j0 x1 x2 L = some (r9, L9, mc, ms)) : Ct Z yX5_ropeOf (ws_ yX5_ropeOf cX5_ropeOf 3 (some (.int))) 7 160 [aR (some j0), aI x1, aI x2] L (some (aI r9)) L9 mc ms :=
  ct_of (own := RX5) hZ (by decide +kernel) rfl (Nat.le_of_ble_eq_true rfl) (fun K _ hK hF hini => w_X5_ropeOf_0 hK hF h)
def f_X5_at (j0 : Nat) (x1 : Int32) (x2 : Int32) (x3 : Int32) (L : LH) : Rs Int32 :=
  fw_cl (f_X5_isBeat x1 L) fun v2 L1 =>
  if v2 = 0 then (
    some ((-nI 2), L1, 0, 0)
  ) else (
    fw_is 8 L1 j0 <|
    fw_cl (f_X5_isPuller j0 x2 L1) fun v4 L3 =>
    if v4 = 0 then (
      some ((-nI 2), L3, 0, 0)
    ) else (
      fw_cl (f_X5_isTwo x3 L3) fun v6 L5 =>
      if v6 = 0 then (
        some ((-nI 2), L5, 0, 0)
      ) else (
        fw_is 8 L5 j0 <|
        fw_cl (f_X5_atOf j0 x1 x2 x3 L5) fun v8 L7 =>
        some (v8, L7, 0, 0)
      )
    )
  )
set_option maxHeartbeats 4000000 in
set_option maxRecDepth 100000 in
theorem w_X5_at_0 {K : Kx} {r9 : Int32} {L9 : LH} (hK : Ok K cX5_at 4 RX5 8 183) (hF : Fin K (some (.int)) (some (aI r9)) L9) {j0 : Nat} {x1 : Int32} {x2 : Int32} {x3 : Int32} {L : LH} {mc ms : Nat} (h : f_X5_at j0 x1 x2 x3 L = some (r9, L9, mc, ms)) : AW K L mc ms 0 [(0, aR (some j0)), (1, aI x1), (2, aI x2), (3, aI x3)] [] := by
  unfold f_X5_at at h
  refine aw_iload_n hK 1 dX5_at_0 rfl rfl ?_
  refine aw_callS_i (n := 1) hK (fun _ _ _ _ q => ct_X5_isBeat hK.zk q) (lw_S q1411 q1412 q102 q1413) (by decide +kernel) (by decide) rfl rfl (Nat.le_of_ble_eq_true rfl) dX5_at_1 h (fun v2 L1 _ _ h => ?_)
  refine aw_if_eq (tgt := 32) hK dX5_at_4 (by decide) h (fun h => ?_) (fun h => ?_)
  · refine aw_bipush (v := (-nI 2)) hK dX5_at_32 rfl ?_
    exact aw_iret hK dX5_at_34 h hF
  · refine aw_aload_n hK 0 dX5_at_7 rfl rfl ?_
    refine aw_iload_n hK 2 dX5_at_8 rfl rfl ?_
    obtain ⟨hj, h⟩ := fw_is_h h
    refine aw_callV_i (n := 1) hK fw_c7 hj (fun _ _ _ _ q => ct_X5_isPuller hK.zk q) (lw_V q1385 q1387 qs49 q102 q1388) (by decide +kernel) (by decide) rfl rfl (Nat.le_of_ble_eq_true rfl) dX5_at_9 h (fun v4 L3 _ _ h => ?_)
    refine aw_if_eq (tgt := 32) hK dX5_at_12 (by decide) h (fun h => ?_) (fun h => ?_)
    · refine aw_bipush (v := (-nI 2)) hK dX5_at_32 rfl ?_
      exact aw_iret hK dX5_at_34 h hF
    · refine aw_iload_n hK 3 dX5_at_15 rfl rfl ?_
      refine aw_callS_i (n := 1) hK (fun _ _ _ _ q => ct_X5_isTwo hK.zk q) (lw_S q1408 q1409 q102 q1410) (by decide +kernel) (by decide) rfl rfl (Nat.le_of_ble_eq_true rfl) dX5_at_16 h (fun v6 L5 _ _ h => ?_)
      refine aw_if_eq (tgt := 32) hK dX5_at_19 (by decide) h (fun h => ?_) (fun h => ?_)
      · refine aw_bipush (v := (-nI 2)) hK dX5_at_32 rfl ?_
        exact aw_iret hK dX5_at_34 h hF
      · refine aw_aload_n hK 0 dX5_at_22 rfl rfl ?_
        refine aw_iload_n hK 1 dX5_at_23 rfl rfl ?_
        refine aw_iload_n hK 2 dX5_at_24 rfl rfl ?_
        refine aw_iload_n hK 3 dX5_at_25 rfl rfl ?_
        obtain ⟨hj, h⟩ := fw_is_h h
        refine aw_callV_i (n := 3) hK fw_c7 hj (fun _ _ _ _ q => ct_X5_atOf hK.zk q) (lw_V q1493 q1495 qs65 q102 q1496) (by decide +kernel) (by decide) rfl rfl (Nat.le_of_ble_eq_true rfl) dX5_at_26 h (fun v8 L7 _ _ h => ?_)
        refine aw_goto (tgt := 34) hK dX5_at_29 (by decide) ?_
        exact aw_iret hK dX5_at_34 h hF
theorem ct_X5_at {Z : fw_ZT} (hZ : fw_Zok Z) {j0 : Nat} {x1 : Int32} {x2 : Int32} {x3 : Int32} {L : LH} {r9 : Int32} {L9 : LH} {mc ms : Nat} (h : f_X5_at j0 x1 x2 x3 L = some (r9, L9, mc, ms)) : Ct Z yX5_at (ws_ yX5_at cX5_at 4 (some (.int))) 8 183 [aR (some j0), aI x1, aI x2, aI x3] L (some (aI r9)) L9 mc ms :=
  ct_of (own := RX5) hZ (by decide +kernel) rfl (Nat.le_of_ble_eq_true rfl) (fun K _ hK hF hini => w_X5_at_0 hK hF h)
def f_X5_won (j0 : Nat) (x1 : Int32) (L : LH) : Rs Int32 :=
  fw_cl (f_X5_isTwo x1 L) fun v2 L1 =>
  if v2 = 0 then (
    some ((-nI 2), L1, 0, 0)
  ) else (
    fw_is 8 L1 j0 <|
    fw_cl (f_X5_wonOf j0 x1 L1) fun v4 L3 =>
    some (v4, L3, 0, 0)
  )
set_option maxHeartbeats 4000000 in
set_option maxRecDepth 100000 in
theorem w_X5_won_0 {K : Kx} {r9 : Int32} {L9 : LH} (hK : Ok K cX5_won 2 RX5 8 181) (hF : Fin K (some (.int)) (some (aI r9)) L9) {j0 : Nat} {x1 : Int32} {L : LH} {mc ms : Nat} (h : f_X5_won j0 x1 L = some (r9, L9, mc, ms)) : AW K L mc ms 0 [(0, aR (some j0)), (1, aI x1)] [] := by
  unfold f_X5_won at h
  refine aw_iload_n hK 1 dX5_won_0 rfl rfl ?_
  refine aw_callS_i (n := 1) hK (fun _ _ _ _ q => ct_X5_isTwo hK.zk q) (lw_S q1408 q1409 q102 q1410) (by decide +kernel) (by decide) rfl rfl (Nat.le_of_ble_eq_true rfl) dX5_won_1 h (fun v2 L1 _ _ h => ?_)
  refine aw_if_eq (tgt := 15) hK dX5_won_4 (by decide) h (fun h => ?_) (fun h => ?_)
  · refine aw_bipush (v := (-nI 2)) hK dX5_won_15 rfl ?_
    exact aw_iret hK dX5_won_17 h hF
  · refine aw_aload_n hK 0 dX5_won_7 rfl rfl ?_
    refine aw_iload_n hK 1 dX5_won_8 rfl rfl ?_
    obtain ⟨hj, h⟩ := fw_is_h h
    refine aw_callV_i (n := 1) hK fw_c7 hj (fun _ _ _ _ q => ct_X5_wonOf hK.zk q) (lw_V q1501 q1503 qs66 q102 q1504) (by decide +kernel) (by decide) rfl rfl (Nat.le_of_ble_eq_true rfl) dX5_won_9 h (fun v4 L3 _ _ h => ?_)
    refine aw_goto (tgt := 17) hK dX5_won_12 (by decide) ?_
    exact aw_iret hK dX5_won_17 h hF
theorem ct_X5_won {Z : fw_ZT} (hZ : fw_Zok Z) {j0 : Nat} {x1 : Int32} {L : LH} {r9 : Int32} {L9 : LH} {mc ms : Nat} (h : f_X5_won j0 x1 L = some (r9, L9, mc, ms)) : Ct Z yX5_won (ws_ yX5_won cX5_won 2 (some (.int))) 8 181 [aR (some j0), aI x1] L (some (aI r9)) L9 mc ms :=
  ct_of (own := RX5) hZ (by decide +kernel) rfl (Nat.le_of_ble_eq_true rfl) (fun K _ hK hF hini => w_X5_won_0 hK hF h)
def f_X5_furthest (j0 : Nat) (x1 : Int32) (L : LH) : Rs Int32 :=
  fw_cl (f_X5_isTwo x1 L) fun v2 L1 =>
  if v2 = 0 then (
    some ((-nI 2), L1, 0, 0)
  ) else (
    fw_is 8 L1 j0 <|
    fw_cl (f_X5_furthestOf j0 x1 L1) fun v4 L3 =>
    some (v4, L3, 0, 0)
  )
set_option maxHeartbeats 4000000 in
set_option maxRecDepth 100000 in
theorem w_X5_furthest_0 {K : Kx} {r9 : Int32} {L9 : LH} (hK : Ok K cX5_furthest 2 RX5 8 184) (hF : Fin K (some (.int)) (some (aI r9)) L9) {j0 : Nat} {x1 : Int32} {L : LH} {mc ms : Nat} (h : f_X5_furthest j0 x1 L = some (r9, L9, mc, ms)) : AW K L mc ms 0 [(0, aR (some j0)), (1, aI x1)] [] := by
  unfold f_X5_furthest at h
  refine aw_iload_n hK 1 dX5_furthest_0 rfl rfl ?_
  refine aw_callS_i (n := 1) hK (fun _ _ _ _ q => ct_X5_isTwo hK.zk q) (lw_S q1408 q1409 q102 q1410) (by decide +kernel) (by decide) rfl rfl (Nat.le_of_ble_eq_true rfl) dX5_furthest_1 h (fun v2 L1 _ _ h => ?_)
  refine aw_if_eq (tgt := 15) hK dX5_furthest_4 (by decide) h (fun h => ?_) (fun h => ?_)
  · refine aw_bipush (v := (-nI 2)) hK dX5_furthest_15 rfl ?_
    exact aw_iret hK dX5_furthest_17 h hF
  · refine aw_aload_n hK 0 dX5_furthest_7 rfl rfl ?_
    refine aw_iload_n hK 1 dX5_furthest_8 rfl rfl ?_
    obtain ⟨hj, h⟩ := fw_is_h h
    refine aw_callV_i (n := 1) hK fw_c7 hj (fun _ _ _ _ q => ct_X5_furthestOf hK.zk q) (lw_V q1509 q1511 qs67 q102 q1512) (by decide +kernel) (by decide) rfl rfl (Nat.le_of_ble_eq_true rfl) dX5_furthest_9 h (fun v4 L3 _ _ h => ?_)
    refine aw_goto (tgt := 17) hK dX5_furthest_12 (by decide) ?_
    exact aw_iret hK dX5_furthest_17 h hF
theorem ct_X5_furthest {Z : fw_ZT} (hZ : fw_Zok Z) {j0 : Nat} {x1 : Int32} {L : LH} {r9 : Int32} {L9 : LH} {mc ms : Nat} (h : f_X5_furthest j0 x1 L = some (r9, L9, mc, ms)) : Ct Z yX5_furthest (ws_ yX5_furthest cX5_furthest 2 (some (.int))) 8 184 [aR (some j0), aI x1] L (some (aI r9)) L9 mc ms :=
  ct_of (own := RX5) hZ (by decide +kernel) rfl (Nat.le_of_ble_eq_true rfl) (fun K _ hK hF hini => w_X5_furthest_0 hK hF h)
def f_X5_done (j0 : Nat) (x1 : Int32) (L : LH) : Rs Int32 :=
  fw_is 8 L j0 <|
  fw_cl (f_X5_isPuller j0 x1 L) fun v2 L1 =>
  if v2 = 0 then (
    some ((-nI 2), L1, 0, 0)
  ) else (
    fw_is 8 L1 j0 <|
    fw_cl (f_X5_doneOf j0 x1 L1) fun v4 L3 =>
    some (v4, L3, 0, 0)
  )
set_option maxHeartbeats 4000000 in
set_option maxRecDepth 100000 in
theorem w_X5_done_0 {K : Kx} {r9 : Int32} {L9 : LH} (hK : Ok K cX5_done 2 RX5 8 181) (hF : Fin K (some (.int)) (some (aI r9)) L9) {j0 : Nat} {x1 : Int32} {L : LH} {mc ms : Nat} (h : f_X5_done j0 x1 L = some (r9, L9, mc, ms)) : AW K L mc ms 0 [(0, aR (some j0)), (1, aI x1)] [] := by
  unfold f_X5_done at h
  refine aw_aload_n hK 0 dX5_done_0 rfl rfl ?_
  refine aw_iload_n hK 1 dX5_done_1 rfl rfl ?_
  obtain ⟨hj, h⟩ := fw_is_h h
  refine aw_callV_i (n := 1) hK fw_c7 hj (fun _ _ _ _ q => ct_X5_isPuller hK.zk q) (lw_V q1385 q1387 qs49 q102 q1388) (by decide +kernel) (by decide) rfl rfl (Nat.le_of_ble_eq_true rfl) dX5_done_2 h (fun v2 L1 _ _ h => ?_)
  refine aw_if_eq (tgt := 16) hK dX5_done_5 (by decide) h (fun h => ?_) (fun h => ?_)
  · refine aw_bipush (v := (-nI 2)) hK dX5_done_16 rfl ?_
    exact aw_iret hK dX5_done_18 h hF
  · refine aw_aload_n hK 0 dX5_done_8 rfl rfl ?_
    refine aw_iload_n hK 1 dX5_done_9 rfl rfl ?_
    obtain ⟨hj, h⟩ := fw_is_h h
    refine aw_callV_i (n := 1) hK fw_c7 hj (fun _ _ _ _ q => ct_X5_doneOf hK.zk q) (lw_V q1517 q1519 qs68 q102 q1520) (by decide +kernel) (by decide) rfl rfl (Nat.le_of_ble_eq_true rfl) dX5_done_10 h (fun v4 L3 _ _ h => ?_)
    refine aw_goto (tgt := 18) hK dX5_done_13 (by decide) ?_
    exact aw_iret hK dX5_done_18 h hF
theorem ct_X5_done {Z : fw_ZT} (hZ : fw_Zok Z) {j0 : Nat} {x1 : Int32} {L : LH} {r9 : Int32} {L9 : LH} {mc ms : Nat} (h : f_X5_done j0 x1 L = some (r9, L9, mc, ms)) : Ct Z yX5_done (ws_ yX5_done cX5_done 2 (some (.int))) 8 181 [aR (some j0), aI x1] L (some (aI r9)) L9 mc ms :=
  ct_of (own := RX5) hZ (by decide +kernel) rfl (Nat.le_of_ble_eq_true rfl) (fun K _ hK hF hini => w_X5_done_0 hK hF h)
def f_X5_spent (j0 : Nat) (L : LH) : Rs Int32 :=
  fw_is 8 L j0 <|
  fw_cl (f_X5_spentOf j0 L) fun v2 L1 =>
  some (v2, L1, 0, 0)
set_option maxHeartbeats 4000000 in
set_option maxRecDepth 100000 in
theorem w_X5_spent_0 {K : Kx} {r9 : Int32} {L9 : LH} (hK : Ok K cX5_spent 1 RX5 8 182) (hF : Fin K (some (.int)) (some (aI r9)) L9) {j0 : Nat} {L : LH} {mc ms : Nat} (h : f_X5_spent j0 L = some (r9, L9, mc, ms)) : AW K L mc ms 0 [(0, aR (some j0))] [] := by
  unfold f_X5_spent at h
  refine aw_aload_n hK 0 dX5_spent_0 rfl rfl ?_
  obtain ⟨hj, h⟩ := fw_is_h h
  refine aw_callV_i (n := 0) hK fw_c7 hj (fun _ _ _ _ q => ct_X5_spentOf hK.zk q) (lw_V q1525 q1527 qs69 q102 q1528) (by decide +kernel) (by decide) rfl rfl (Nat.le_of_ble_eq_true rfl) dX5_spent_1 h (fun v2 L1 _ _ h => ?_)
  exact aw_iret hK dX5_spent_4 h hF
theorem ct_X5_spent {Z : fw_ZT} (hZ : fw_Zok Z) {j0 : Nat} {L : LH} {r9 : Int32} {L9 : LH} {mc ms : Nat} (h : f_X5_spent j0 L = some (r9, L9, mc, ms)) : Ct Z yX5_spent (ws_ yX5_spent cX5_spent 1 (some (.int))) 8 182 [aR (some j0)] L (some (aI r9)) L9 mc ms :=
  ct_of (own := RX5) hZ (by decide +kernel) rfl (Nat.le_of_ble_eq_true rfl) (fun K _ hK hF hini => w_X5_spent_0 hK hF h)
def f_X5_best (j0 : Nat) (L : LH) : Rs Int32 :=
  fw_is 8 L j0 <|
  fw_cl (f_X5_bestOf j0 L) fun v2 L1 =>
  some (v2, L1, 0, 0)
set_option maxHeartbeats 4000000 in
set_option maxRecDepth 100000 in
theorem w_X5_best_0 {K : Kx} {r9 : Int32} {L9 : LH} (hK : Ok K cX5_best 1 RX5 8 183) (hF : Fin K (some (.int)) (some (aI r9)) L9) {j0 : Nat} {L : LH} {mc ms : Nat} (h : f_X5_best j0 L = some (r9, L9, mc, ms)) : AW K L mc ms 0 [(0, aR (some j0))] [] := by
  unfold f_X5_best at h
  refine aw_aload_n hK 0 dX5_best_0 rfl rfl ?_
  obtain ⟨hj, h⟩ := fw_is_h h
  refine aw_callV_i (n := 0) hK fw_c7 hj (fun _ _ _ _ q => ct_X5_bestOf hK.zk q) (lw_V q1533 q1535 qs70 q102 q1536) (by decide +kernel) (by decide) rfl rfl (Nat.le_of_ble_eq_true rfl) dX5_best_1 h (fun v2 L1 _ _ h => ?_)
  exact aw_iret hK dX5_best_4 h hF
theorem ct_X5_best {Z : fw_ZT} (hZ : fw_Zok Z) {j0 : Nat} {L : LH} {r9 : Int32} {L9 : LH} {mc ms : Nat} (h : f_X5_best j0 L = some (r9, L9, mc, ms)) : Ct Z yX5_best (ws_ yX5_best cX5_best 1 (some (.int))) 8 183 [aR (some j0)] L (some (aI r9)) L9 mc ms :=
  ct_of (own := RX5) hZ (by decide +kernel) rfl (Nat.le_of_ble_eq_true rfl) (fun K _ hK hF hini => w_X5_best_0 hK hF h)
def f_X5_level (j0 : Nat) (L : LH) : Rs Int32 :=
  fw_is 8 L j0 <|
  fw_cl (f_X5_levelOf j0 L) fun v2 L1 =>
  some (v2, L1, 0, 0)
set_option maxHeartbeats 4000000 in
set_option maxRecDepth 100000 in
theorem w_X5_level_0 {K : Kx} {r9 : Int32} {L9 : LH} (hK : Ok K cX5_level 1 RX5 8 180) (hF : Fin K (some (.int)) (some (aI r9)) L9) {j0 : Nat} {L : LH} {mc ms : Nat} (h : f_X5_level j0 L = some (r9, L9, mc, ms)) : AW K L mc ms 0 [(0, aR (some j0))] [] := by
  unfold f_X5_level at h
  refine aw_aload_n hK 0 dX5_level_0 rfl rfl ?_
  obtain ⟨hj, h⟩ := fw_is_h h
  refine aw_callV_i (n := 0) hK fw_c7 hj (fun _ _ _ _ q => ct_X5_levelOf hK.zk q) (lw_V q1541 q1543 qs71 q102 q1544) (by decide +kernel) (by decide) rfl rfl (Nat.le_of_ble_eq_true rfl) dX5_level_1 h (fun v2 L1 _ _ h => ?_)
  exact aw_iret hK dX5_level_4 h hF
theorem ct_X5_level {Z : fw_ZT} (hZ : fw_Zok Z) {j0 : Nat} {L : LH} {r9 : Int32} {L9 : LH} {mc ms : Nat} (h : f_X5_level j0 L = some (r9, L9, mc, ms)) : Ct Z yX5_level (ws_ yX5_level cX5_level 1 (some (.int))) 8 180 [aR (some j0)] L (some (aI r9)) L9 mc ms :=
  ct_of (own := RX5) hZ (by decide +kernel) rfl (Nat.le_of_ble_eq_true rfl) (fun K _ hK hF hini => w_X5_level_0 hK hF h)
def f_X5_better (j0 : Nat) (x1 : Int32) (x2 : Int32) (x3 : Int32) (L : LH) : Rs Int32 :=
  fw_cl (f_X5_isTwo x1 L) fun v2 L1 =>
  if v2 = 0 then (
    some ((-nI 2), L1, 0, 0)
  ) else (
    fw_cl (f_X5_isBeat x2 L1) fun v4 L3 =>
    if v4 = 0 then (
      some ((-nI 2), L3, 0, 0)
    ) else (
      fw_cl (f_X5_isTwo x3 L3) fun v6 L5 =>
      if v6 = 0 then (
        some ((-nI 2), L5, 0, 0)
      ) else (
        fw_is 8 L5 j0 <|
        fw_cl (f_X5_betterOf j0 x1 x2 x3 L5) fun v8 L7 =>
        some (v8, L7, 0, 0)
      )
    )
  )
set_option maxHeartbeats 4000000 in
set_option maxRecDepth 100000 in
theorem w_X5_better_0 {K : Kx} {r9 : Int32} {L9 : LH} (hK : Ok K cX5_better 4 RX5 8 184) (hF : Fin K (some (.int)) (some (aI r9)) L9) {j0 : Nat} {x1 : Int32} {x2 : Int32} {x3 : Int32} {L : LH} {mc ms : Nat} (h : f_X5_better j0 x1 x2 x3 L = some (r9, L9, mc, ms)) : AW K L mc ms 0 [(0, aR (some j0)), (1, aI x1), (2, aI x2), (3, aI x3)] [] := by
  unfold f_X5_better at h
  refine aw_iload_n hK 1 dX5_better_0 rfl rfl ?_
  refine aw_callS_i (n := 1) hK (fun _ _ _ _ q => ct_X5_isTwo hK.zk q) (lw_S q1408 q1409 q102 q1410) (by decide +kernel) (by decide) rfl rfl (Nat.le_of_ble_eq_true rfl) dX5_better_1 h (fun v2 L1 _ _ h => ?_)
  refine aw_if_eq (tgt := 31) hK dX5_better_4 (by decide) h (fun h => ?_) (fun h => ?_)
  · refine aw_bipush (v := (-nI 2)) hK dX5_better_31 rfl ?_
    exact aw_iret hK dX5_better_33 h hF
  · refine aw_iload_n hK 2 dX5_better_7 rfl rfl ?_
    refine aw_callS_i (n := 1) hK (fun _ _ _ _ q => ct_X5_isBeat hK.zk q) (lw_S q1411 q1412 q102 q1413) (by decide +kernel) (by decide) rfl rfl (Nat.le_of_ble_eq_true rfl) dX5_better_8 h (fun v4 L3 _ _ h => ?_)
    refine aw_if_eq (tgt := 31) hK dX5_better_11 (by decide) h (fun h => ?_) (fun h => ?_)
    · refine aw_bipush (v := (-nI 2)) hK dX5_better_31 rfl ?_
      exact aw_iret hK dX5_better_33 h hF
    · refine aw_iload_n hK 3 dX5_better_14 rfl rfl ?_
      refine aw_callS_i (n := 1) hK (fun _ _ _ _ q => ct_X5_isTwo hK.zk q) (lw_S q1408 q1409 q102 q1410) (by decide +kernel) (by decide) rfl rfl (Nat.le_of_ble_eq_true rfl) dX5_better_15 h (fun v6 L5 _ _ h => ?_)
      refine aw_if_eq (tgt := 31) hK dX5_better_18 (by decide) h (fun h => ?_) (fun h => ?_)
      · refine aw_bipush (v := (-nI 2)) hK dX5_better_31 rfl ?_
        exact aw_iret hK dX5_better_33 h hF
      · refine aw_aload_n hK 0 dX5_better_21 rfl rfl ?_
        refine aw_iload_n hK 1 dX5_better_22 rfl rfl ?_
        refine aw_iload_n hK 2 dX5_better_23 rfl rfl ?_
        refine aw_iload_n hK 3 dX5_better_24 rfl rfl ?_
        obtain ⟨hj, h⟩ := fw_is_h h
        refine aw_callV_i (n := 3) hK fw_c7 hj (fun _ _ _ _ q => ct_X5_betterOf hK.zk q) (lw_V q1549 q1551 qs72 q102 q1552) (by decide +kernel) (by decide) rfl rfl (Nat.le_of_ble_eq_true rfl) dX5_better_25 h (fun v8 L7 _ _ h => ?_)
        refine aw_goto (tgt := 33) hK dX5_better_28 (by decide) ?_
        exact aw_iret hK dX5_better_33 h hF
theorem ct_X5_better {Z : fw_ZT} (hZ : fw_Zok Z) {j0 : Nat} {x1 : Int32} {x2 : Int32} {x3 : Int32} {L : LH} {r9 : Int32} {L9 : LH} {mc ms : Nat} (h : f_X5_better j0 x1 x2 x3 L = some (r9, L9, mc, ms)) : Ct Z yX5_better (ws_ yX5_better cX5_better 4 (some (.int))) 8 184 [aR (some j0), aI x1, aI x2, aI x3] L (some (aI r9)) L9 mc ms :=
  ct_of (own := RX5) hZ (by decide +kernel) rfl (Nat.le_of_ble_eq_true rfl) (fun K _ hK hF hini => w_X5_better_0 hK hF h)
def f_X5_spare (j0 : Nat) (x1 : Int32) (L : LH) : Rs Int32 :=
  fw_cl (f_X5_in x1 (-nI 1) (nI 1) L) fun v2 L1 =>
  if v2 = 0 then (
    some ((-nI 2), L1, 0, 0)
  ) else (
    fw_is 8 L1 j0 <|
    fw_cl (f_X5_spareBy j0 L1) fun v4 L3 =>
    fw_is 8 L3 j0 <|
    fw_cl (f_X5_ofRow j0 v4 x1 L3) fun v6 L5 =>
    some (v6, L5, 0, 0)
  )
set_option maxHeartbeats 4000000 in
set_option maxRecDepth 100000 in
theorem w_X5_spare_0 {K : Kx} {r9 : Int32} {L9 : LH} (hK : Ok K cX5_spare 2 RX5 7 162) (hF : Fin K (some (.int)) (some (aI r9)) L9) {j0 : Nat} {x1 : Int32} {L : LH} {mc ms : Nat} (h : f_X5_spare j0 x1 L = some (r9, L9, mc, ms)) : AW K L mc ms 0 [(0, aR (some j0)), (1, aI x1)] [] := by
  unfold f_X5_spare at h
  refine aw_iload_n hK 1 dX5_spare_0 rfl rfl ?_
  refine aw_iconst (v := (-nI 1)) hK dX5_spare_1 rfl ?_
  refine aw_iconst (v := (nI 1)) hK dX5_spare_2 rfl ?_
  refine aw_callS_i (n := 3) hK (fun _ _ _ _ q => ct_X5_in hK.zk q) (lw_S q1343 q1344 q102 q1345) (by decide +kernel) (by decide) rfl rfl (Nat.le_of_ble_eq_true rfl) dX5_spare_3 h (fun v2 L1 _ _ h => ?_)
  refine aw_if_eq (tgt := 21) hK dX5_spare_6 (by decide) h (fun h => ?_) (fun h => ?_)
  · refine aw_bipush (v := (-nI 2)) hK dX5_spare_21 rfl ?_
    exact aw_iret hK dX5_spare_23 h hF
  · refine aw_aload_n hK 0 dX5_spare_9 rfl rfl ?_
    refine aw_aload_n hK 0 dX5_spare_10 rfl rfl ?_
    obtain ⟨hj, h⟩ := fw_is_h h
    refine aw_callV_i (n := 0) hK fw_c7 hj (fun _ _ _ _ q => ct_X5_spareBy hK.zk q) (lw_V q1581 q1583 qs77 q102 q1584) (by decide +kernel) (by decide) rfl rfl (Nat.le_of_ble_eq_true rfl) dX5_spare_11 h (fun v4 L3 _ _ h => ?_)
    refine aw_iload_n hK 1 dX5_spare_14 rfl rfl ?_
    obtain ⟨hj, h⟩ := fw_is_h h
    refine aw_callV_i (n := 2) hK fw_c7 hj (fun _ _ _ _ q => ct_X5_ofRow hK.zk q) (lw_V q1589 q1591 qs79 q102 q1592) (by decide +kernel) (by decide) rfl rfl (Nat.le_of_ble_eq_true rfl) dX5_spare_15 h (fun v6 L5 _ _ h => ?_)
    refine aw_goto (tgt := 23) hK dX5_spare_18 (by decide) ?_
    exact aw_iret hK dX5_spare_23 h hF
theorem ct_X5_spare {Z : fw_ZT} (hZ : fw_Zok Z) {j0 : Nat} {x1 : Int32} {L : LH} {r9 : Int32} {L9 : LH} {mc ms : Nat} (h : f_X5_spare j0 x1 L = some (r9, L9, mc, ms)) : Ct Z yX5_spare (ws_ yX5_spare cX5_spare 2 (some (.int))) 7 162 [aR (some j0), aI x1] L (some (aI r9)) L9 mc ms :=
  ct_of (own := RX5) hZ (by decide +kernel) rfl (Nat.le_of_ble_eq_true rfl) (fun K _ hK hF hini => w_X5_spare_0 hK hF h)
def f_X5_never (j0 : Nat) (L : LH) : Rs Int32 :=
  fw_is 8 L j0 <|
  fw_cl (f_X5_neverNow j0 L) fun v2 L1 =>
  some (v2, L1, 0, 0)
set_option maxHeartbeats 4000000 in
set_option maxRecDepth 100000 in
theorem w_X5_never_0 {K : Kx} {r9 : Int32} {L9 : LH} (hK : Ok K cX5_never 1 RX5 7 162) (hF : Fin K (some (.int)) (some (aI r9)) L9) {j0 : Nat} {L : LH} {mc ms : Nat} (h : f_X5_never j0 L = some (r9, L9, mc, ms)) : AW K L mc ms 0 [(0, aR (some j0))] [] := by
  unfold f_X5_never at h
  refine aw_aload_n hK 0 dX5_never_0 rfl rfl ?_
  obtain ⟨hj, h⟩ := fw_is_h h
  refine aw_callV_i (n := 0) hK fw_c7 hj (fun _ _ _ _ q => ct_X5_neverNow hK.zk q) (lw_V q1605 q1607 qs80 q102 q1608) (by decide +kernel) (by decide) rfl rfl (Nat.le_of_ble_eq_true rfl) dX5_never_1 h (fun v2 L1 _ _ h => ?_)
  exact aw_iret hK dX5_never_4 h hF
theorem ct_X5_never {Z : fw_ZT} (hZ : fw_Zok Z) {j0 : Nat} {L : LH} {r9 : Int32} {L9 : LH} {mc ms : Nat} (h : f_X5_never j0 L = some (r9, L9, mc, ms)) : Ct Z yX5_never (ws_ yX5_never cX5_never 1 (some (.int))) 7 162 [aR (some j0)] L (some (aI r9)) L9 mc ms :=
  ct_of (own := RX5) hZ (by decide +kernel) rfl (Nat.le_of_ble_eq_true rfl) (fun K _ hK hF hini => w_X5_never_0 hK hF h)
def f_X5_count_52 (j0 : Nat) (x1 : Int32) (L : LH) : Rs Int32 :=
  fw_is 8 L j0 <|
  fw_cl (f_X5_tellOf j0 x1 L) fun v2 L1 =>
  some (v2, L1, 0, 0)
def f_X5_count (j0 : Nat) (x1 : Int32) (L : LH) : Rs Int32 :=
  if x1 = (nI 0) then (
    f_X5_count_52 j0 x1 L
  ) else (
    if x1 = (nI 1) then (
      f_X5_count_52 j0 x1 L
    ) else (
      if x1 = (nI 2) then (
        f_X5_count_52 j0 x1 L
      ) else (
        if x1 = (nI 3) then (
          f_X5_count_52 j0 x1 L
        ) else (
          if x1 = (nI 4) then (
            fw_gR 8 L j0 0 fun r1 =>
            fw_nn r1 fun j2 =>
            fw_rd 100 L j2 (nI 0) fun v3 =>
            fw_gR 8 L j0 0 fun r4 =>
            fw_nn r4 fun j5 =>
            fw_rd 100 L j5 (nI 1) fun v6 =>
            fw_gR 8 L j0 0 fun r7 =>
            fw_nn r7 fun j8 =>
            fw_rd 100 L j8 (nI 2) fun v9 =>
            fw_gR 8 L j0 0 fun r10 =>
            fw_nn r10 fun j11 =>
            fw_rd 100 L j11 (nI 3) fun v12 =>
            some ((((v3 + v6) + v9) + v12), L, 0, 0)
          ) else (
            if x1 = (nI 5) then (
              fw_gI 8 L j0 9 fun v13 =>
              some (v13, L, 0, 0)
            ) else (
              if x1 = (nI 6) then (
                f_X5_count_52 j0 x1 L
              ) else (
                if x1 = (nI 7) then (
                  fw_gI 8 L j0 37 fun v14 =>
                  some (v14, L, 0, 0)
                ) else (
                  if x1 = (nI 8) then (
                    fw_gI 8 L j0 46 fun v15 =>
                    some (v15, L, 0, 0)
                  ) else (
                    some ((-nI 2), L, 0, 0)
                  )
                )
              )
            )
          )
        )
      )
    )
  )
set_option maxHeartbeats 4000000 in
set_option maxRecDepth 100000 in
theorem w_X5_count_52 {K : Kx} {r9 : Int32} {L9 : LH} (hK : Ok K cX5_count 2 RX5 8 181) (hF : Fin K (some (.int)) (some (aI r9)) L9) {j0 : Nat} {x1 : Int32} {L : LH} {mc ms : Nat} (h : f_X5_count_52 j0 x1 L = some (r9, L9, mc, ms)) : AW K L mc ms 52 [(0, aR (some j0)), (1, aI x1)] [] := by
  unfold f_X5_count_52 at h
  refine aw_aload_n hK 0 dX5_count_52 rfl rfl ?_
  refine aw_iload_n hK 1 dX5_count_53 rfl rfl ?_
  obtain ⟨hj, h⟩ := fw_is_h h
  refine aw_callV_i (n := 1) hK fw_c7 hj (fun _ _ _ _ q => ct_X5_tellOf hK.zk q) (lw_V q1694 q1696 qs89 q102 q1697) (by decide +kernel) (by decide) rfl rfl (Nat.le_of_ble_eq_true rfl) dX5_count_54 h (fun v2 L1 _ _ h => ?_)
  exact aw_iret hK dX5_count_57 h hF
set_option maxHeartbeats 4000000 in
set_option maxRecDepth 100000 in
theorem w_X5_count_0 {K : Kx} {r9 : Int32} {L9 : LH} (hK : Ok K cX5_count 2 RX5 8 181) (hF : Fin K (some (.int)) (some (aI r9)) L9) {j0 : Nat} {x1 : Int32} {L : LH} {mc ms : Nat} (h : f_X5_count j0 x1 L = some (r9, L9, mc, ms)) : AW K L mc ms 0 [(0, aR (some j0)), (1, aI x1)] [] := by
  unfold f_X5_count at h
  refine aw_iload_n hK 1 dX5_count_0 rfl rfl ?_
  by_cases c0 : x1 = (nI 0)
  · rw [if_pos c0] at h
    refine aw_tabIn (tgt := 52) hK dX5_count_1 c0 (by decide) (by decide) rfl (by decide) ?_
    exact w_X5_count_52 hK hF h
  · rw [if_neg c0] at h
    by_cases c1 : x1 = (nI 1)
    · rw [if_pos c1] at h
      refine aw_tabIn (tgt := 52) hK dX5_count_1 c1 (by decide) (by decide) rfl (by decide) ?_
      exact w_X5_count_52 hK hF h
    · rw [if_neg c1] at h
      by_cases c2 : x1 = (nI 2)
      · rw [if_pos c2] at h
        refine aw_tabIn (tgt := 52) hK dX5_count_1 c2 (by decide) (by decide) rfl (by decide) ?_
        exact w_X5_count_52 hK hF h
      · rw [if_neg c2] at h
        by_cases c3 : x1 = (nI 3)
        · rw [if_pos c3] at h
          refine aw_tabIn (tgt := 52) hK dX5_count_1 c3 (by decide) (by decide) rfl (by decide) ?_
          exact w_X5_count_52 hK hF h
        · rw [if_neg c3] at h
          by_cases c4 : x1 = (nI 4)
          · rw [if_pos c4] at h
            refine aw_tabIn (tgt := 58) hK dX5_count_1 c4 (by decide) (by decide) rfl (by decide) ?_
            refine aw_aload_n hK 0 dX5_count_58 rfl rfl ?_
            refine aw_gR hK fw_c7 0 (by decide) rfl q1193 (fun _ h9 => h9) dX5_count_59 h (fun r1 h => ?_)
            refine aw_iconst (v := (nI 0)) hK dX5_count_62 rfl ?_
            obtain _ | j2 := r1
            · exact (fw_nn_no h).elim
            replace h := fw_nn_so h
            refine aw_iald hK dX5_count_63 h (fun v3 h => ?_)
            refine aw_aload_n hK 0 dX5_count_64 rfl rfl ?_
            refine aw_gR hK fw_c7 0 (by decide) rfl q1193 (fun _ h9 => h9) dX5_count_65 h (fun r4 h => ?_)
            refine aw_iconst (v := (nI 1)) hK dX5_count_68 rfl ?_
            obtain _ | j5 := r4
            · exact (fw_nn_no h).elim
            replace h := fw_nn_so h
            refine aw_iald hK dX5_count_69 h (fun v6 h => ?_)
            refine aw_iadd hK dX5_count_70 ?_
            refine aw_aload_n hK 0 dX5_count_71 rfl rfl ?_
            refine aw_gR hK fw_c7 0 (by decide) rfl q1193 (fun _ h9 => h9) dX5_count_72 h (fun r7 h => ?_)
            refine aw_iconst (v := (nI 2)) hK dX5_count_75 rfl ?_
            obtain _ | j8 := r7
            · exact (fw_nn_no h).elim
            replace h := fw_nn_so h
            refine aw_iald hK dX5_count_76 h (fun v9 h => ?_)
            refine aw_iadd hK dX5_count_77 ?_
            refine aw_aload_n hK 0 dX5_count_78 rfl rfl ?_
            refine aw_gR hK fw_c7 0 (by decide) rfl q1193 (fun _ h9 => h9) dX5_count_79 h (fun r10 h => ?_)
            refine aw_iconst (v := (nI 3)) hK dX5_count_82 rfl ?_
            obtain _ | j11 := r10
            · exact (fw_nn_no h).elim
            replace h := fw_nn_so h
            refine aw_iald hK dX5_count_83 h (fun v12 h => ?_)
            refine aw_iadd hK dX5_count_84 ?_
            exact aw_iret hK dX5_count_85 h hF
          · rw [if_neg c4] at h
            by_cases c5 : x1 = (nI 5)
            · rw [if_pos c5] at h
              refine aw_tabIn (tgt := 86) hK dX5_count_1 c5 (by decide) (by decide) rfl (by decide) ?_
              refine aw_aload_n hK 0 dX5_count_86 rfl rfl ?_
              refine aw_gI hK fw_c7 9 (by decide) rfl q1202 (fun _ h9 => h9) dX5_count_87 h (fun v13 h => ?_)
              exact aw_iret hK dX5_count_90 h hF
            · rw [if_neg c5] at h
              by_cases c6 : x1 = (nI 6)
              · rw [if_pos c6] at h
                refine aw_tabIn (tgt := 52) hK dX5_count_1 c6 (by decide) (by decide) rfl (by decide) ?_
                exact w_X5_count_52 hK hF h
              · rw [if_neg c6] at h
                by_cases c7 : x1 = (nI 7)
                · rw [if_pos c7] at h
                  refine aw_tabIn (tgt := 91) hK dX5_count_1 c7 (by decide) (by decide) rfl (by decide) ?_
                  refine aw_aload_n hK 0 dX5_count_91 rfl rfl ?_
                  refine aw_gI hK fw_c7 37 (by decide) rfl q1230 (fun _ h9 => h9) dX5_count_92 h (fun v14 h => ?_)
                  exact aw_iret hK dX5_count_95 h hF
                · rw [if_neg c7] at h
                  by_cases c8 : x1 = (nI 8)
                  · rw [if_pos c8] at h
                    refine aw_tabIn (tgt := 96) hK dX5_count_1 c8 (by decide) (by decide) rfl (by decide) ?_
                    refine aw_aload_n hK 0 dX5_count_96 rfl rfl ?_
                    refine aw_gI hK fw_c7 46 (by decide) rfl q1239 (fun _ h9 => h9) dX5_count_97 h (fun v15 h => ?_)
                    exact aw_iret hK dX5_count_100 h hF
                  · rw [if_neg c8] at h
                    refine aw_tabOut (tgt := 101) hK dX5_count_1 ?_ (by decide) ?_
                    · have hh := And.intro (And.intro trivial trivial) trivial
                      have e0 := lv_neT c0 (a := 0) rfl
                      have e1 := lv_neT c1 (a := 1) rfl
                      have e2 := lv_neT c2 (a := 2) rfl
                      have e3 := lv_neT c3 (a := 3) rfl
                      have e4 := lv_neT c4 (a := 4) rfl
                      have e5 := lv_neT c5 (a := 5) rfl
                      have e6 := lv_neT c6 (a := 6) rfl
                      have e7 := lv_neT c7 (a := 7) rfl
                      have e8 := lv_neT c8 (a := 8) rfl
                      omega
                    · refine aw_bipush (v := (-nI 2)) hK dX5_count_101 rfl ?_
                      exact aw_iret hK dX5_count_103 h hF
theorem ct_X5_count {Z : fw_ZT} (hZ : fw_Zok Z) {j0 : Nat} {x1 : Int32} {L : LH} {r9 : Int32} {L9 : LH} {mc ms : Nat} (h : f_X5_count j0 x1 L = some (r9, L9, mc, ms)) : Ct Z yX5_count (ws_ yX5_count cX5_count 2 (some (.int))) 8 181 [aR (some j0), aI x1] L (some (aI r9)) L9 mc ms :=
  ct_of (own := RX5) hZ (by decide +kernel) rfl (Nat.le_of_ble_eq_true rfl) (fun K _ hK hF hini => w_X5_count_0 hK hF h)
def f_X5_pullerDigest_6 : Nat → Nat → Int32 → Int64 → Int32 → LH → Rs Int64
  | 0, _, _, _, _, _ => none
  | n + 1, j0, x3, y4, x6, L =>
    if (nI 3) ≤ x6 then (
      fw_is 8 L j0 <|
      fw_cl (f_X5_beatDigest j0 y4 (nI 0) x3 L) fun v2 L1 =>
      fw_is 8 L1 j0 <|
      fw_cl (f_X5_beatDigest j0 v2 (nI 5) x3 L1) fun v4 L3 =>
      fw_is 8 L3 j0 <|
      fw_cl (f_X5_beatDigest j0 v4 (nI 12) x3 L3) fun v6 L5 =>
      fw_is 8 L5 j0 <|
      fw_cl (f_X5_beatDigest j0 v6 (nI 23) x3 L5) fun v8 L7 =>
      fw_is 8 L7 j0 <|
      fw_cl (f_X5_doneOf j0 x3 L7) fun v10 L9 =>
      fw_is 8 L9 j0 <|
      fw_cl (f_X5_weightsBy j0 x3 L9) fun v12 L11 =>
      fw_is 8 L11 j0 <|
      fw_cl (f_X5_sortsBy j0 x3 L11) fun v14 L13 =>
      fw_is 8 L13 j0 <|
      fw_cl (f_X5_askOf j0 x3 L13) fun v16 L15 =>
      some ((((31 : Int64) * (((31 : Int64) * (((31 : Int64) * (((31 : Int64) * v8) + v10.toInt64)) + v12.toInt64)) + v14.toInt64)) + v16.toInt64), L15, 0, 0)
    ) else (
      fw_is 8 L j0 <|
      fw_cl (f_X5_pullerOf j0 x3 x6 L) fun v18 L17 =>
      f_X5_pullerDigest_6 n j0 x3 (((31 : Int64) * y4) + v18.toInt64) (x6 + (nI 1)) L17
    )
def f_X5_pullerDigest (j0 : Nat) (y1 : Int64) (x3 : Int32) (L : LH) : Rs Int64 :=
  f_X5_pullerDigest_6 fw_fuel j0 x3 y1 (nI 0) L
set_option maxHeartbeats 4000000 in
set_option maxRecDepth 100000 in
theorem w_X5_pullerDigest_6 {K : Kx} {r9 : Int64} {L9 : LH} (hK : Ok K cX5_pullerDigest 7 RX5 9 209) (hF : Fin K (some (.long)) (some (aL r9)) L9) : ∀ {n : Nat} {j0 : Nat} {x3 : Int32} {y4 : Int64} {x6 : Int32} {L : LH} {mc ms : Nat}, f_X5_pullerDigest_6 n j0 x3 y4 x6 L = some (r9, L9, mc, ms) → AW K L mc ms 6 [(0, aR (some j0)), (3, aI x3), (4, aL y4), (6, aI x6)] [] := by
  intro n
  induction n with
  | zero =>
    intro j0 x3 y4 x6 L mc ms h
    have h : (none : Rs Int64) = some (r9, L9, mc, ms) := h
    cases h
  | succ n ih =>
    intro j0 x3 y4 x6 L mc ms h
    unfold f_X5_pullerDigest_6 at h
    refine aw_iload hK 3 dX5_pullerDigest_6 rfl ?_
    refine aw_iconst (v := (nI 3)) hK dX5_pullerDigest_8 rfl ?_
    refine aw_icmp_ge (tgt := 35) hK dX5_pullerDigest_9 (by decide) h (fun h => ?_) (fun h => ?_)
    · refine aw_aload_n hK 0 dX5_pullerDigest_35 rfl rfl ?_
      refine aw_lload hK 2 dX5_pullerDigest_36 rfl ?_
      refine aw_iconst (v := (nI 0)) hK dX5_pullerDigest_38 rfl ?_
      refine aw_iload_n hK 1 dX5_pullerDigest_39 rfl rfl ?_
      obtain ⟨hj, h⟩ := fw_is_h h
      refine aw_callV_l (n := 3) hK fw_c7 hj (fun _ _ _ _ q => ct_X5_beatDigest hK.zk q) (lw_V q1709 q1711 qs91 q102 q1712) (by decide +kernel) (by decide) rfl rfl (Nat.le_of_ble_eq_true rfl) dX5_pullerDigest_40 h (fun v2 L1 _ _ h => ?_)
      refine aw_lstore (lv' := [(4, aL v2), (0, aR (some j0)), (3, aI x3), (6, aI x6)]) hK dX5_pullerDigest_43 (by decide) rfl ?_
      refine aw_aload_n hK 1 dX5_pullerDigest_45 rfl rfl ?_
      refine aw_lload hK 0 dX5_pullerDigest_46 rfl ?_
      refine aw_iconst (v := (nI 5)) hK dX5_pullerDigest_48 rfl ?_
      refine aw_iload_n hK 2 dX5_pullerDigest_49 rfl rfl ?_
      obtain ⟨hj, h⟩ := fw_is_h h
      refine aw_callV_l (n := 3) hK fw_c7 hj (fun _ _ _ _ q => ct_X5_beatDigest hK.zk q) (lw_V q1709 q1711 qs91 q102 q1712) (by decide +kernel) (by decide) rfl rfl (Nat.le_of_ble_eq_true rfl) dX5_pullerDigest_50 h (fun v4 L3 _ _ h => ?_)
      refine aw_lstore (lv' := [(4, aL v4), (0, aR (some j0)), (3, aI x3), (6, aI x6)]) hK dX5_pullerDigest_53 (by decide) rfl ?_
      refine aw_aload_n hK 1 dX5_pullerDigest_55 rfl rfl ?_
      refine aw_lload hK 0 dX5_pullerDigest_56 rfl ?_
      refine aw_bipush (v := (nI 12)) hK dX5_pullerDigest_58 rfl ?_
      refine aw_iload_n hK 2 dX5_pullerDigest_60 rfl rfl ?_
      obtain ⟨hj, h⟩ := fw_is_h h
      refine aw_callV_l (n := 3) hK fw_c7 hj (fun _ _ _ _ q => ct_X5_beatDigest hK.zk q) (lw_V q1709 q1711 qs91 q102 q1712) (by decide +kernel) (by decide) rfl rfl (Nat.le_of_ble_eq_true rfl) dX5_pullerDigest_61 h (fun v6 L5 _ _ h => ?_)
      refine aw_lstore (lv' := [(4, aL v6), (0, aR (some j0)), (3, aI x3), (6, aI x6)]) hK dX5_pullerDigest_64 (by decide) rfl ?_
      refine aw_aload_n hK 1 dX5_pullerDigest_66 rfl rfl ?_
      refine aw_lload hK 0 dX5_pullerDigest_67 rfl ?_
      refine aw_bipush (v := (nI 23)) hK dX5_pullerDigest_69 rfl ?_
      refine aw_iload_n hK 2 dX5_pullerDigest_71 rfl rfl ?_
      obtain ⟨hj, h⟩ := fw_is_h h
      refine aw_callV_l (n := 3) hK fw_c7 hj (fun _ _ _ _ q => ct_X5_beatDigest hK.zk q) (lw_V q1709 q1711 qs91 q102 q1712) (by decide +kernel) (by decide) rfl rfl (Nat.le_of_ble_eq_true rfl) dX5_pullerDigest_72 h (fun v8 L7 _ _ h => ?_)
      refine aw_lstore (lv' := [(4, aL v8), (0, aR (some j0)), (3, aI x3), (6, aI x6)]) hK dX5_pullerDigest_75 (by decide) rfl ?_
      refine aw_ldc2 (v := 31) hK q1703 dX5_pullerDigest_77 ?_
      refine aw_lload hK 0 dX5_pullerDigest_80 rfl ?_
      refine aw_lmul hK dX5_pullerDigest_82 ?_
      refine aw_aload_n hK 1 dX5_pullerDigest_83 rfl rfl ?_
      refine aw_iload_n hK 2 dX5_pullerDigest_84 rfl rfl ?_
      obtain ⟨hj, h⟩ := fw_is_h h
      refine aw_callV_i (n := 1) hK fw_c7 hj (fun _ _ _ _ q => ct_X5_doneOf hK.zk q) (lw_V q1517 q1519 qs68 q102 q1520) (by decide +kernel) (by decide) rfl rfl (Nat.le_of_ble_eq_true rfl) dX5_pullerDigest_85 h (fun v10 L9 _ _ h => ?_)
      refine aw_i2l hK dX5_pullerDigest_88 ?_
      refine aw_ladd hK dX5_pullerDigest_89 ?_
      refine aw_lstore (lv' := [(4, aL (((31 : Int64) * v8) + v10.toInt64)), (0, aR (some j0)), (3, aI x3), (6, aI x6)]) hK dX5_pullerDigest_90 (by decide) rfl ?_
      refine aw_ldc2 (v := 31) hK q1703 dX5_pullerDigest_92 ?_
      refine aw_lload hK 0 dX5_pullerDigest_95 rfl ?_
      refine aw_lmul hK dX5_pullerDigest_97 ?_
      refine aw_aload_n hK 1 dX5_pullerDigest_98 rfl rfl ?_
      refine aw_iload_n hK 2 dX5_pullerDigest_99 rfl rfl ?_
      obtain ⟨hj, h⟩ := fw_is_h h
      refine aw_callV_i (n := 1) hK fw_c7 hj (fun _ _ _ _ q => ct_X5_weightsBy hK.zk q) (lw_V q1617 q1619 qs82 q102 q1620) (by decide +kernel) (by decide) rfl rfl (Nat.le_of_ble_eq_true rfl) dX5_pullerDigest_100 h (fun v12 L11 _ _ h => ?_)
      refine aw_i2l hK dX5_pullerDigest_103 ?_
      refine aw_ladd hK dX5_pullerDigest_104 ?_
      refine aw_lstore (lv' := [(4, aL (((31 : Int64) * (((31 : Int64) * v8) + v10.toInt64)) + v12.toInt64)), (0, aR (some j0)), (3, aI x3), (6, aI x6)]) hK dX5_pullerDigest_105 (by decide) rfl ?_
      refine aw_ldc2 (v := 31) hK q1703 dX5_pullerDigest_107 ?_
      refine aw_lload hK 0 dX5_pullerDigest_110 rfl ?_
      refine aw_lmul hK dX5_pullerDigest_112 ?_
      refine aw_aload_n hK 1 dX5_pullerDigest_113 rfl rfl ?_
      refine aw_iload_n hK 2 dX5_pullerDigest_114 rfl rfl ?_
      obtain ⟨hj, h⟩ := fw_is_h h
      refine aw_callV_i (n := 1) hK fw_c7 hj (fun _ _ _ _ q => ct_X5_sortsBy hK.zk q) (lw_V q1621 q1623 qs83 q102 q1624) (by decide +kernel) (by decide) rfl rfl (Nat.le_of_ble_eq_true rfl) dX5_pullerDigest_115 h (fun v14 L13 _ _ h => ?_)
      refine aw_i2l hK dX5_pullerDigest_118 ?_
      refine aw_ladd hK dX5_pullerDigest_119 ?_
      refine aw_lstore (lv' := [(4, aL (((31 : Int64) * (((31 : Int64) * (((31 : Int64) * v8) + v10.toInt64)) + v12.toInt64)) + v14.toInt64)), (0, aR (some j0)), (3, aI x3), (6, aI x6)]) hK dX5_pullerDigest_120 (by decide) rfl ?_
      refine aw_ldc2 (v := 31) hK q1703 dX5_pullerDigest_122 ?_
      refine aw_lload hK 0 dX5_pullerDigest_125 rfl ?_
      refine aw_lmul hK dX5_pullerDigest_127 ?_
      refine aw_aload_n hK 1 dX5_pullerDigest_128 rfl rfl ?_
      refine aw_iload_n hK 2 dX5_pullerDigest_129 rfl rfl ?_
      obtain ⟨hj, h⟩ := fw_is_h h
      refine aw_callV_i (n := 1) hK fw_c7 hj (fun _ _ _ _ q => ct_X5_askOf hK.zk q) (lw_V q1629 q1631 qs84 q102 q1632) (by decide +kernel) (by decide) rfl rfl (Nat.le_of_ble_eq_true rfl) dX5_pullerDigest_130 h (fun v16 L15 _ _ h => ?_)
      refine aw_i2l hK dX5_pullerDigest_133 ?_
      refine aw_ladd hK dX5_pullerDigest_134 ?_
      exact aw_lret hK dX5_pullerDigest_135 h hF
    · refine aw_ldc2 (v := 31) hK q1703 dX5_pullerDigest_12 ?_
      refine aw_lload hK 2 dX5_pullerDigest_15 rfl ?_
      refine aw_lmul hK dX5_pullerDigest_17 ?_
      refine aw_aload_n hK 0 dX5_pullerDigest_18 rfl rfl ?_
      refine aw_iload_n hK 1 dX5_pullerDigest_19 rfl rfl ?_
      refine aw_iload hK 3 dX5_pullerDigest_20 rfl ?_
      obtain ⟨hj, h⟩ := fw_is_h h
      refine aw_callV_i (n := 2) hK fw_c7 hj (fun _ _ _ _ q => ct_X5_pullerOf hK.zk q) (lw_V q1400 q1402 qs52 q102 q1403) (by decide +kernel) (by decide) rfl rfl (Nat.le_of_ble_eq_true rfl) dX5_pullerDigest_22 h (fun v18 L17 _ _ h => ?_)
      refine aw_i2l hK dX5_pullerDigest_25 ?_
      refine aw_ladd hK dX5_pullerDigest_26 ?_
      refine aw_lstore (lv' := [(4, aL (((31 : Int64) * y4) + v18.toInt64)), (0, aR (some j0)), (3, aI x3), (6, aI x6)]) hK dX5_pullerDigest_27 (by decide) rfl ?_
      refine aw_iinc (v := (x6 + (nI 1))) (lv' := [(6, aI (x6 + (nI 1))), (4, aL (((31 : Int64) * y4) + v18.toInt64)), (0, aR (some j0)), (3, aI x3)]) hK 3 dX5_pullerDigest_29 rfl rfl (by decide) rfl ?_
      refine aw_goto (tgt := 6) hK dX5_pullerDigest_32 (by decide) ?_
      exact aw_sub [2, 3, 1, 0] rfl (ih h)
set_option maxHeartbeats 4000000 in
set_option maxRecDepth 100000 in
theorem w_X5_pullerDigest_0 {K : Kx} {r9 : Int64} {L9 : LH} (hK : Ok K cX5_pullerDigest 7 RX5 9 209) (hF : Fin K (some (.long)) (some (aL r9)) L9) {j0 : Nat} {y1 : Int64} {x3 : Int32} {L : LH} {mc ms : Nat} (h : f_X5_pullerDigest j0 y1 x3 L = some (r9, L9, mc, ms)) : AW K L mc ms 0 [(0, aR (some j0)), (1, aL y1), (3, aI x3)] [] := by
  unfold f_X5_pullerDigest at h
  refine aw_lload_n hK 1 dX5_pullerDigest_0 rfl rfl ?_
  refine aw_lstore (lv' := [(4, aL y1), (0, aR (some j0)), (1, aL y1), (3, aI x3)]) hK dX5_pullerDigest_1 (by decide) rfl ?_
  refine aw_iconst (v := (nI 0)) hK dX5_pullerDigest_3 rfl ?_
  refine aw_istore (lv' := [(6, aI (nI 0)), (4, aL y1), (0, aR (some j0)), (1, aL y1), (3, aI x3)]) hK dX5_pullerDigest_4 (by decide) rfl ?_
  exact aw_sub [2, 4, 1, 0] rfl (w_X5_pullerDigest_6 hK hF h)
theorem ct_X5_pullerDigest {Z : fw_ZT} (hZ : fw_Zok Z) {j0 : Nat} {y1 : Int64} {x3 : Int32} {L : LH} {r9 : Int64} {L9 : LH} {mc ms : Nat} (h : f_X5_pullerDigest j0 y1 x3 L = some (r9, L9, mc, ms)) : Ct Z yX5_pullerDigest (ws_ yX5_pullerDigest cX5_pullerDigest 7 (some (.long))) 9 209 [aR (some j0), aL y1, aI x3] L (some (aL r9)) L9 mc ms :=
  ct_of (own := RX5) hZ (by decide +kernel) rfl (Nat.le_of_ble_eq_true rfl) (fun K _ hK hF hini => w_X5_pullerDigest_0 hK hF h)
def f_X5_rope (j0 : Nat) (x1 : Int32) (x2 : Int32) (L : LH) : Rs Int32 :=
  fw_cl (f_X5_isBeat x1 L) fun v2 L1 =>
  if v2 = 0 then (
    some ((-nI 2), L1, 0, 0)
  ) else (
    fw_cl (f_X5_in x2 (nI 0) (nI 3) L1) fun v4 L3 =>
    if v4 = 0 then (
      some ((-nI 2), L3, 0, 0)
    ) else (
      fw_is 8 L3 j0 <|
      fw_cl (f_X5_ropeOf j0 x1 x2 L3) fun v6 L5 =>
      some (v6, L5, 0, 0)
    )
  )
set_option maxHeartbeats 4000000 in
set_option maxRecDepth 100000 in
theorem w_X5_rope_0 {K : Kx} {r9 : Int32} {L9 : LH} (hK : Ok K cX5_rope 3 RX5 8 182) (hF : Fin K (some (.int)) (some (aI r9)) L9) {j0 : Nat} {x1 : Int32} {x2 : Int32} {L : LH} {mc ms : Nat} (h : f_X5_rope j0 x1 x2 L = some (r9, L9, mc, ms)) : AW K L mc ms 0 [(0, aR (some j0)), (1, aI x1), (2, aI x2)] [] := by
  unfold f_X5_rope at h
  refine aw_iload_n hK 1 dX5_rope_0 rfl rfl ?_
  refine aw_callS_i (n := 1) hK (fun _ _ _ _ q => ct_X5_isBeat hK.zk q) (lw_S q1411 q1412 q102 q1413) (by decide +kernel) (by decide) rfl rfl (Nat.le_of_ble_eq_true rfl) dX5_rope_1 h (fun v2 L1 _ _ h => ?_)
  refine aw_if_eq (tgt := 25) hK dX5_rope_4 (by decide) h (fun h => ?_) (fun h => ?_)
  · refine aw_bipush (v := (-nI 2)) hK dX5_rope_25 rfl ?_
    exact aw_iret hK dX5_rope_27 h hF
  · refine aw_iload_n hK 2 dX5_rope_7 rfl rfl ?_
    refine aw_iconst (v := (nI 0)) hK dX5_rope_8 rfl ?_
    refine aw_iconst (v := (nI 3)) hK dX5_rope_9 rfl ?_
    refine aw_callS_i (n := 3) hK (fun _ _ _ _ q => ct_X5_in hK.zk q) (lw_S q1343 q1344 q102 q1345) (by decide +kernel) (by decide) rfl rfl (Nat.le_of_ble_eq_true rfl) dX5_rope_10 h (fun v4 L3 _ _ h => ?_)
    refine aw_if_eq (tgt := 25) hK dX5_rope_13 (by decide) h (fun h => ?_) (fun h => ?_)
    · refine aw_bipush (v := (-nI 2)) hK dX5_rope_25 rfl ?_
      exact aw_iret hK dX5_rope_27 h hF
    · refine aw_aload_n hK 0 dX5_rope_16 rfl rfl ?_
      refine aw_iload_n hK 1 dX5_rope_17 rfl rfl ?_
      refine aw_iload_n hK 2 dX5_rope_18 rfl rfl ?_
      obtain ⟨hj, h⟩ := fw_is_h h
      refine aw_callV_i (n := 2) hK fw_c7 hj (fun _ _ _ _ q => ct_X5_ropeOf hK.zk q) (lw_V q1446 q1448 qs55 q102 q1449) (by decide +kernel) (by decide) rfl rfl (Nat.le_of_ble_eq_true rfl) dX5_rope_19 h (fun v6 L5 _ _ h => ?_)
      refine aw_goto (tgt := 27) hK dX5_rope_22 (by decide) ?_
      exact aw_iret hK dX5_rope_27 h hF
theorem ct_X5_rope {Z : fw_ZT} (hZ : fw_Zok Z) {j0 : Nat} {x1 : Int32} {x2 : Int32} {L : LH} {r9 : Int32} {L9 : LH} {mc ms : Nat} (h : f_X5_rope j0 x1 x2 L = some (r9, L9, mc, ms)) : Ct Z yX5_rope (ws_ yX5_rope cX5_rope 3 (some (.int))) 8 182 [aR (some j0), aI x1, aI x2] L (some (aI r9)) L9 mc ms :=
  ct_of (own := RX5) hZ (by decide +kernel) rfl (Nat.le_of_ble_eq_true rfl) (fun K _ hK hF hini => w_X5_rope_0 hK hF h)
def f_X5_digest_96 (rec59 : Nat → Int64 → Int32 → LH → Rs Int64) : Nat → Nat → Int64 → Int32 → Int32 → LH → Rs Int64
  | 0, _, _, _, _, _ => none
  | n + 1, j0, y1, x3, x4, L =>
    if (nI 4) ≤ x4 then (
      rec59 j0 y1 (x3 + (nI 1)) L
    ) else (
      fw_is 8 L j0 <|
      fw_cl (f_X5_ropeOf j0 x3 x4 L) fun v2 L1 =>
      f_X5_digest_96 rec59 n j0 (((31 : Int64) * y1) + v2.toInt64) x3 (x4 + (nI 1)) L1
    )
def f_X5_digest_152 (rec131 : Nat → Int64 → Int32 → LH → Rs Int64) (j0 : Nat) (y1 : Int64) (x3 : Int32) (L : LH) : Rs Int64 :=
  rec131 j0 y1 (x3 + (nI 1)) L
def f_X5_digest_131 : Nat → Nat → Int64 → Int32 → LH → Rs Int64
  | 0, _, _, _, _ => none
  | n + 1, j0, y1, x3, L =>
    if (nI 16) ≤ x3 then (
      fw_is 8 L j0 <|
      fw_cl (f_X5_teamDigest j0 y1 (nI 0) L) fun v2 L1 =>
      fw_is 8 L1 j0 <|
      fw_cl (f_X5_teamDigest j0 v2 (nI 1) L1) fun v4 L3 =>
      fw_is 8 L3 j0 <|
      fw_cl (f_X5_wonOf j0 (nI 0) L3) fun v6 L5 =>
      fw_is 8 L5 j0 <|
      fw_cl (f_X5_wonOf j0 (nI 1) L5) fun v8 L7 =>
      fw_is 8 L7 j0 <|
      fw_cl (f_X5_furthestOf j0 (nI 0) L7) fun v10 L9 =>
      fw_is 8 L9 j0 <|
      fw_cl (f_X5_furthestOf j0 (nI 1) L9) fun v12 L11 =>
      fw_is 8 L11 j0 <|
      fw_cl (f_X5_spentOf j0 L11) fun v14 L13 =>
      fw_is 8 L13 j0 <|
      fw_cl (f_X5_bestOf j0 L13) fun v16 L15 =>
      fw_is 8 L15 j0 <|
      fw_cl (f_X5_levelOf j0 L15) fun v18 L17 =>
      fw_is 8 L17 j0 <|
      fw_cl (f_X5_spareBy j0 L17) fun v20 L19 =>
      fw_is 8 L19 j0 <|
      fw_cl (f_X5_ofRow j0 v20 (nI 0) L19) fun v22 L21 =>
      fw_is 8 L21 j0 <|
      fw_cl (f_X5_neverNow j0 L21) fun v24 L23 =>
      fw_is 8 L23 j0 <|
      fw_cl (f_X5_yearsOf j0 (nI 7) (nI 18) (nI 0) L23) fun v26 L25 =>
      fw_is 8 L25 j0 <|
      fw_cl (f_X5_yearsOf j0 (nI 7) (nI 18) (nI 1) L25) fun v28 L27 =>
      some ((((31 : Int64) * (((31 : Int64) * (((31 : Int64) * (((31 : Int64) * (((31 : Int64) * (((31 : Int64) * (((31 : Int64) * (((31 : Int64) * (((31 : Int64) * (((31 : Int64) * (((31 : Int64) * (((31 : Int64) * v4) + v6.toInt64)) + v8.toInt64)) + v10.toInt64)) + v12.toInt64)) + v14.toInt64)) + v16.toInt64)) + v18.toInt64)) + v20.toInt64)) + v22.toInt64)) + v24.toInt64)) + v26.toInt64)) + v28.toInt64), L27, 0, 0)
    ) else (
      fw_is 8 L j0 <|
      fw_cl (f_X5_isThereOne j0 x3 L) fun v30 L29 =>
      if v30 = 0 then (
        f_X5_digest_152 (f_X5_digest_131 n) j0 y1 x3 L29
      ) else (
        fw_is 8 L29 j0 <|
        fw_cl (f_X5_pullerDigest j0 y1 x3 L29) fun v32 L31 =>
        f_X5_digest_152 (f_X5_digest_131 n) j0 v32 x3 L31
      )
    )
def f_X5_digest_59 : Nat → Nat → Int64 → Int32 → LH → Rs Int64
  | 0, _, _, _, _ => none
  | n + 1, j0, y1, x3, L =>
    if (nI 24) ≤ x3 then (
      f_X5_digest_131 fw_fuel j0 y1 (nI 0) L
    ) else (
      fw_is 8 L j0 <|
      fw_cl (f_X5_callOf j0 (nI 0) x3 L) fun v2 L1 =>
      fw_is 8 L1 j0 <|
      fw_cl (f_X5_callOf j0 (nI 1) x3 L1) fun v4 L3 =>
      f_X5_digest_96 (f_X5_digest_59 n) fw_fuel j0 (((31 : Int64) * (((31 : Int64) * y1) + v2.toInt64)) + v4.toInt64) x3 (nI 0) L3
    )
def f_X5_digest_33 : Nat → Nat → Int64 → Int32 → LH → Rs Int64
  | 0, _, _, _, _ => none
  | n + 1, j0, y1, x3, L =>
    if (nI 4) ≤ x3 then (
      f_X5_digest_59 fw_fuel j0 y1 (nI 0) L
    ) else (
      fw_is 8 L j0 <|
      fw_cl (f_X5_faultOf j0 x3 L) fun v2 L1 =>
      f_X5_digest_33 n j0 (((31 : Int64) * y1) + v2.toInt64) (x3 + (nI 1)) L1
    )
def f_X5_digest_6 : Nat → Nat → Int64 → Int32 → LH → Rs Int64
  | 0, _, _, _, _ => none
  | n + 1, j0, y1, x3, L =>
    if (nI 8) ≤ x3 then (
      f_X5_digest_33 fw_fuel j0 y1 (nI 0) L
    ) else (
      fw_is 8 L j0 <|
      fw_cl (f_X5_count j0 x3 L) fun v2 L1 =>
      f_X5_digest_6 n j0 (((31 : Int64) * y1) + v2.toInt64) (x3 + (nI 1)) L1
    )
def f_X5_digest (j0 : Nat) (L : LH) : Rs Int64 :=
  f_X5_digest_6 fw_fuel j0 (17 : Int64) (nI 0) L
set_option maxHeartbeats 4000000 in
set_option maxRecDepth 100000 in
theorem w_X5_digest_96 {K : Kx} {r9 : Int64} {L9 : LH} (hK : Ok K cX5_digest 5 RX5 10 235) (hF : Fin K (some (.long)) (some (aL r9)) L9) {rec59 : Nat → Int64 → Int32 → LH → Rs Int64} (hrec59 : ∀ {j0 : Nat} {y1 : Int64} {x3 : Int32} {L : LH} {mc ms : Nat}, rec59 j0 y1 x3 L = some (r9, L9, mc, ms) → AW K L mc ms 59 [(0, aR (some j0)), (1, aL y1), (3, aI x3)] []) : ∀ {n : Nat} {j0 : Nat} {y1 : Int64} {x3 : Int32} {x4 : Int32} {L : LH} {mc ms : Nat}, f_X5_digest_96 rec59 n j0 y1 x3 x4 L = some (r9, L9, mc, ms) → AW K L mc ms 96 [(0, aR (some j0)), (1, aL y1), (3, aI x3), (4, aI x4)] [] := by
  intro n
  induction n with
  | zero =>
    intro j0 y1 x3 x4 L mc ms h
    have h : (none : Rs Int64) = some (r9, L9, mc, ms) := h
    cases h
  | succ n ih =>
    intro j0 y1 x3 x4 L mc ms h
    unfold f_X5_digest_96 at h
    refine aw_iload hK 3 dX5_digest_96 rfl ?_
    refine aw_iconst (v := (nI 4)) hK dX5_digest_98 rfl ?_
    refine aw_icmp_ge (tgt := 123) hK dX5_digest_99 (by decide) h (fun h => ?_) (fun h => ?_)
    · refine aw_iinc (v := (x3 + (nI 1))) (lv' := [(3, aI (x3 + (nI 1))), (0, aR (some j0)), (1, aL y1), (4, aI x4)]) hK 2 dX5_digest_123 rfl rfl (by decide) rfl ?_
      refine aw_goto (tgt := 59) hK dX5_digest_126 (by decide) ?_
      exact aw_sub [1, 2, 0] rfl (hrec59 h)
    · refine aw_ldc2 (v := 31) hK q1703 dX5_digest_102 ?_
      refine aw_lload_n hK 1 dX5_digest_105 rfl rfl ?_
      refine aw_lmul hK dX5_digest_106 ?_
      refine aw_aload_n hK 0 dX5_digest_107 rfl rfl ?_
      refine aw_iload_n hK 2 dX5_digest_108 rfl rfl ?_
      refine aw_iload hK 3 dX5_digest_109 rfl ?_
      obtain ⟨hj, h⟩ := fw_is_h h
      refine aw_callV_i (n := 2) hK fw_c7 hj (fun _ _ _ _ q => ct_X5_ropeOf hK.zk q) (lw_V q1446 q1448 qs55 q102 q1449) (by decide +kernel) (by decide) rfl rfl (Nat.le_of_ble_eq_true rfl) dX5_digest_111 h (fun v2 L1 _ _ h => ?_)
      refine aw_i2l hK dX5_digest_114 ?_
      refine aw_ladd hK dX5_digest_115 ?_
      refine aw_lstore_n (lv' := [(1, aL (((31 : Int64) * y1) + v2.toInt64)), (0, aR (some j0)), (3, aI x3), (4, aI x4)]) hK dX5_digest_116 rfl (by decide) rfl ?_
      refine aw_iinc (v := (x4 + (nI 1))) (lv' := [(4, aI (x4 + (nI 1))), (1, aL (((31 : Int64) * y1) + v2.toInt64)), (0, aR (some j0)), (3, aI x3)]) hK 3 dX5_digest_117 rfl rfl (by decide) rfl ?_
      refine aw_goto (tgt := 96) hK dX5_digest_120 (by decide) ?_
      exact aw_sub [2, 1, 3, 0] rfl (ih h)
set_option maxHeartbeats 4000000 in
set_option maxRecDepth 100000 in
theorem w_X5_digest_152 {K : Kx} {r9 : Int64} {L9 : LH} (hK : Ok K cX5_digest 5 RX5 10 235) (hF : Fin K (some (.long)) (some (aL r9)) L9) {rec131 : Nat → Int64 → Int32 → LH → Rs Int64} (hrec131 : ∀ {j0 : Nat} {y1 : Int64} {x3 : Int32} {L : LH} {mc ms : Nat}, rec131 j0 y1 x3 L = some (r9, L9, mc, ms) → AW K L mc ms 131 [(0, aR (some j0)), (1, aL y1), (3, aI x3)] []) {j0 : Nat} {y1 : Int64} {x3 : Int32} {L : LH} {mc ms : Nat} (h : f_X5_digest_152 rec131 j0 y1 x3 L = some (r9, L9, mc, ms)) : AW K L mc ms 152 [(0, aR (some j0)), (1, aL y1), (3, aI x3)] [] := by
  unfold f_X5_digest_152 at h
  refine aw_iinc (v := (x3 + (nI 1))) (lv' := [(3, aI (x3 + (nI 1))), (0, aR (some j0)), (1, aL y1)]) hK 2 dX5_digest_152 rfl rfl (by decide) rfl ?_
  refine aw_goto (tgt := 131) hK dX5_digest_155 (by decide) ?_
  exact aw_sub [1, 2, 0] rfl (hrec131 h)
set_option maxHeartbeats 4000000 in
set_option maxRecDepth 100000 in
theorem w_X5_digest_131 {K : Kx} {r9 : Int64} {L9 : LH} (hK : Ok K cX5_digest 5 RX5 10 235) (hF : Fin K (some (.long)) (some (aL r9)) L9) : ∀ {n : Nat} {j0 : Nat} {y1 : Int64} {x3 : Int32} {L : LH} {mc ms : Nat}, f_X5_digest_131 n j0 y1 x3 L = some (r9, L9, mc, ms) → AW K L mc ms 131 [(0, aR (some j0)), (1, aL y1), (3, aI x3)] [] := by
  intro n
  induction n with
  | zero =>
    intro j0 y1 x3 L mc ms h
    have h : (none : Rs Int64) = some (r9, L9, mc, ms) := h
    cases h
  | succ n ih =>
    intro j0 y1 x3 L mc ms h
    unfold f_X5_digest_131 at h
    refine aw_iload_n hK 2 dX5_digest_131 rfl rfl ?_
    refine aw_bipush (v := (nI 16)) hK dX5_digest_132 rfl ?_
    refine aw_icmp_ge (tgt := 158) hK dX5_digest_134 (by decide) h (fun h => ?_) (fun h => ?_)
    · refine aw_aload_n hK 0 dX5_digest_158 rfl rfl ?_
      refine aw_lload_n hK 1 dX5_digest_159 rfl rfl ?_
      refine aw_iconst (v := (nI 0)) hK dX5_digest_160 rfl ?_
      obtain ⟨hj, h⟩ := fw_is_h h
      refine aw_callV_l (n := 2) hK fw_c7 hj (fun _ _ _ _ q => ct_X5_teamDigest hK.zk q) (lw_V q1713 q1715 qs92 q102 q1716) (by decide +kernel) (by decide) rfl rfl (Nat.le_of_ble_eq_true rfl) dX5_digest_161 h (fun v2 L1 _ _ h => ?_)
      refine aw_lstore_n (lv' := [(1, aL v2), (0, aR (some j0)), (3, aI x3)]) hK dX5_digest_164 rfl (by decide) rfl ?_
      refine aw_aload_n hK 1 dX5_digest_165 rfl rfl ?_
      refine aw_lload_n hK 0 dX5_digest_166 rfl rfl ?_
      refine aw_iconst (v := (nI 1)) hK dX5_digest_167 rfl ?_
      obtain ⟨hj, h⟩ := fw_is_h h
      refine aw_callV_l (n := 2) hK fw_c7 hj (fun _ _ _ _ q => ct_X5_teamDigest hK.zk q) (lw_V q1713 q1715 qs92 q102 q1716) (by decide +kernel) (by decide) rfl rfl (Nat.le_of_ble_eq_true rfl) dX5_digest_168 h (fun v4 L3 _ _ h => ?_)
      refine aw_lstore_n (lv' := [(1, aL v4), (0, aR (some j0)), (3, aI x3)]) hK dX5_digest_171 rfl (by decide) rfl ?_
      refine aw_ldc2 (v := 31) hK q1703 dX5_digest_172 ?_
      refine aw_lload_n hK 0 dX5_digest_175 rfl rfl ?_
      refine aw_lmul hK dX5_digest_176 ?_
      refine aw_aload_n hK 1 dX5_digest_177 rfl rfl ?_
      refine aw_iconst (v := (nI 0)) hK dX5_digest_178 rfl ?_
      obtain ⟨hj, h⟩ := fw_is_h h
      refine aw_callV_i (n := 1) hK fw_c7 hj (fun _ _ _ _ q => ct_X5_wonOf hK.zk q) (lw_V q1501 q1503 qs66 q102 q1504) (by decide +kernel) (by decide) rfl rfl (Nat.le_of_ble_eq_true rfl) dX5_digest_179 h (fun v6 L5 _ _ h => ?_)
      refine aw_i2l hK dX5_digest_182 ?_
      refine aw_ladd hK dX5_digest_183 ?_
      refine aw_lstore_n (lv' := [(1, aL (((31 : Int64) * v4) + v6.toInt64)), (0, aR (some j0)), (3, aI x3)]) hK dX5_digest_184 rfl (by decide) rfl ?_
      refine aw_ldc2 (v := 31) hK q1703 dX5_digest_185 ?_
      refine aw_lload_n hK 0 dX5_digest_188 rfl rfl ?_
      refine aw_lmul hK dX5_digest_189 ?_
      refine aw_aload_n hK 1 dX5_digest_190 rfl rfl ?_
      refine aw_iconst (v := (nI 1)) hK dX5_digest_191 rfl ?_
      obtain ⟨hj, h⟩ := fw_is_h h
      refine aw_callV_i (n := 1) hK fw_c7 hj (fun _ _ _ _ q => ct_X5_wonOf hK.zk q) (lw_V q1501 q1503 qs66 q102 q1504) (by decide +kernel) (by decide) rfl rfl (Nat.le_of_ble_eq_true rfl) dX5_digest_192 h (fun v8 L7 _ _ h => ?_)
      refine aw_i2l hK dX5_digest_195 ?_
      refine aw_ladd hK dX5_digest_196 ?_
      refine aw_lstore_n (lv' := [(1, aL (((31 : Int64) * (((31 : Int64) * v4) + v6.toInt64)) + v8.toInt64)), (0, aR (some j0)), (3, aI x3)]) hK dX5_digest_197 rfl (by decide) rfl ?_
      refine aw_ldc2 (v := 31) hK q1703 dX5_digest_198 ?_
      refine aw_lload_n hK 0 dX5_digest_201 rfl rfl ?_
      refine aw_lmul hK dX5_digest_202 ?_
      refine aw_aload_n hK 1 dX5_digest_203 rfl rfl ?_
      refine aw_iconst (v := (nI 0)) hK dX5_digest_204 rfl ?_
      obtain ⟨hj, h⟩ := fw_is_h h
      refine aw_callV_i (n := 1) hK fw_c7 hj (fun _ _ _ _ q => ct_X5_furthestOf hK.zk q) (lw_V q1509 q1511 qs67 q102 q1512) (by decide +kernel) (by decide) rfl rfl (Nat.le_of_ble_eq_true rfl) dX5_digest_205 h (fun v10 L9 _ _ h => ?_)
      refine aw_i2l hK dX5_digest_208 ?_
      refine aw_ladd hK dX5_digest_209 ?_
      refine aw_lstore_n (lv' := [(1, aL (((31 : Int64) * (((31 : Int64) * (((31 : Int64) * v4) + v6.toInt64)) + v8.toInt64)) + v10.toInt64)), (0, aR (some j0)), (3, aI x3)]) hK dX5_digest_210 rfl (by decide) rfl ?_
      refine aw_ldc2 (v := 31) hK q1703 dX5_digest_211 ?_
      refine aw_lload_n hK 0 dX5_digest_214 rfl rfl ?_
      refine aw_lmul hK dX5_digest_215 ?_
      refine aw_aload_n hK 1 dX5_digest_216 rfl rfl ?_
      refine aw_iconst (v := (nI 1)) hK dX5_digest_217 rfl ?_
      obtain ⟨hj, h⟩ := fw_is_h h
      refine aw_callV_i (n := 1) hK fw_c7 hj (fun _ _ _ _ q => ct_X5_furthestOf hK.zk q) (lw_V q1509 q1511 qs67 q102 q1512) (by decide +kernel) (by decide) rfl rfl (Nat.le_of_ble_eq_true rfl) dX5_digest_218 h (fun v12 L11 _ _ h => ?_)
      refine aw_i2l hK dX5_digest_221 ?_
      refine aw_ladd hK dX5_digest_222 ?_
      refine aw_lstore_n (lv' := [(1, aL (((31 : Int64) * (((31 : Int64) * (((31 : Int64) * (((31 : Int64) * v4) + v6.toInt64)) + v8.toInt64)) + v10.toInt64)) + v12.toInt64)), (0, aR (some j0)), (3, aI x3)]) hK dX5_digest_223 rfl (by decide) rfl ?_
      refine aw_ldc2 (v := 31) hK q1703 dX5_digest_224 ?_
      refine aw_lload_n hK 0 dX5_digest_227 rfl rfl ?_
      refine aw_lmul hK dX5_digest_228 ?_
      refine aw_aload_n hK 1 dX5_digest_229 rfl rfl ?_
      obtain ⟨hj, h⟩ := fw_is_h h
      refine aw_callV_i (n := 0) hK fw_c7 hj (fun _ _ _ _ q => ct_X5_spentOf hK.zk q) (lw_V q1525 q1527 qs69 q102 q1528) (by decide +kernel) (by decide) rfl rfl (Nat.le_of_ble_eq_true rfl) dX5_digest_230 h (fun v14 L13 _ _ h => ?_)
      refine aw_i2l hK dX5_digest_233 ?_
      refine aw_ladd hK dX5_digest_234 ?_
      refine aw_lstore_n (lv' := [(1, aL (((31 : Int64) * (((31 : Int64) * (((31 : Int64) * (((31 : Int64) * (((31 : Int64) * v4) + v6.toInt64)) + v8.toInt64)) + v10.toInt64)) + v12.toInt64)) + v14.toInt64)), (0, aR (some j0)), (3, aI x3)]) hK dX5_digest_235 rfl (by decide) rfl ?_
      refine aw_ldc2 (v := 31) hK q1703 dX5_digest_236 ?_
      refine aw_lload_n hK 0 dX5_digest_239 rfl rfl ?_
      refine aw_lmul hK dX5_digest_240 ?_
      refine aw_aload_n hK 1 dX5_digest_241 rfl rfl ?_
      obtain ⟨hj, h⟩ := fw_is_h h
      refine aw_callV_i (n := 0) hK fw_c7 hj (fun _ _ _ _ q => ct_X5_bestOf hK.zk q) (lw_V q1533 q1535 qs70 q102 q1536) (by decide +kernel) (by decide) rfl rfl (Nat.le_of_ble_eq_true rfl) dX5_digest_242 h (fun v16 L15 _ _ h => ?_)
      refine aw_i2l hK dX5_digest_245 ?_
      refine aw_ladd hK dX5_digest_246 ?_
      refine aw_lstore_n (lv' := [(1, aL (((31 : Int64) * (((31 : Int64) * (((31 : Int64) * (((31 : Int64) * (((31 : Int64) * (((31 : Int64) * v4) + v6.toInt64)) + v8.toInt64)) + v10.toInt64)) + v12.toInt64)) + v14.toInt64)) + v16.toInt64)), (0, aR (some j0)), (3, aI x3)]) hK dX5_digest_247 rfl (by decide) rfl ?_
      refine aw_ldc2 (v := 31) hK q1703 dX5_digest_248 ?_
      refine aw_lload_n hK 0 dX5_digest_251 rfl rfl ?_
      refine aw_lmul hK dX5_digest_252 ?_
      refine aw_aload_n hK 1 dX5_digest_253 rfl rfl ?_
      obtain ⟨hj, h⟩ := fw_is_h h
      refine aw_callV_i (n := 0) hK fw_c7 hj (fun _ _ _ _ q => ct_X5_levelOf hK.zk q) (lw_V q1541 q1543 qs71 q102 q1544) (by decide +kernel) (by decide) rfl rfl (Nat.le_of_ble_eq_true rfl) dX5_digest_254 h (fun v18 L17 _ _ h => ?_)
      refine aw_i2l hK dX5_digest_257 ?_
      refine aw_ladd hK dX5_digest_258 ?_
      refine aw_lstore_n (lv' := [(1, aL (((31 : Int64) * (((31 : Int64) * (((31 : Int64) * (((31 : Int64) * (((31 : Int64) * (((31 : Int64) * (((31 : Int64) * v4) + v6.toInt64)) + v8.toInt64)) + v10.toInt64)) + v12.toInt64)) + v14.toInt64)) + v16.toInt64)) + v18.toInt64)), (0, aR (some j0)), (3, aI x3)]) hK dX5_digest_259 rfl (by decide) rfl ?_
      refine aw_aload_n hK 1 dX5_digest_260 rfl rfl ?_
      obtain ⟨hj, h⟩ := fw_is_h h
      refine aw_callV_i (n := 0) hK fw_c7 hj (fun _ _ _ _ q => ct_X5_spareBy hK.zk q) (lw_V q1581 q1583 qs77 q102 q1584) (by decide +kernel) (by decide) rfl rfl (Nat.le_of_ble_eq_true rfl) dX5_digest_261 h (fun v20 L19 _ _ h => ?_)
      refine aw_istore_n (lv' := [(3, aI v20), (1, aL (((31 : Int64) * (((31 : Int64) * (((31 : Int64) * (((31 : Int64) * (((31 : Int64) * (((31 : Int64) * (((31 : Int64) * v4) + v6.toInt64)) + v8.toInt64)) + v10.toInt64)) + v12.toInt64)) + v14.toInt64)) + v16.toInt64)) + v18.toInt64)), (0, aR (some j0))]) hK dX5_digest_264 rfl (by decide) rfl ?_
      refine aw_ldc2 (v := 31) hK q1703 dX5_digest_265 ?_
      refine aw_lload_n hK 1 dX5_digest_268 rfl rfl ?_
      refine aw_lmul hK dX5_digest_269 ?_
      refine aw_iload_n hK 0 dX5_digest_270 rfl rfl ?_
      refine aw_i2l hK dX5_digest_271 ?_
      refine aw_ladd hK dX5_digest_272 ?_
      refine aw_lstore_n (lv' := [(1, aL (((31 : Int64) * (((31 : Int64) * (((31 : Int64) * (((31 : Int64) * (((31 : Int64) * (((31 : Int64) * (((31 : Int64) * (((31 : Int64) * v4) + v6.toInt64)) + v8.toInt64)) + v10.toInt64)) + v12.toInt64)) + v14.toInt64)) + v16.toInt64)) + v18.toInt64)) + v20.toInt64)), (3, aI v20), (0, aR (some j0))]) hK dX5_digest_273 rfl (by decide) rfl ?_
      refine aw_ldc2 (v := 31) hK q1703 dX5_digest_274 ?_
      refine aw_lload_n hK 0 dX5_digest_277 rfl rfl ?_
      refine aw_lmul hK dX5_digest_278 ?_
      refine aw_aload_n hK 2 dX5_digest_279 rfl rfl ?_
      refine aw_iload_n hK 1 dX5_digest_280 rfl rfl ?_
      refine aw_iconst (v := (nI 0)) hK dX5_digest_281 rfl ?_
      obtain ⟨hj, h⟩ := fw_is_h h
      refine aw_callV_i (n := 2) hK fw_c7 hj (fun _ _ _ _ q => ct_X5_ofRow hK.zk q) (lw_V q1589 q1591 qs79 q102 q1592) (by decide +kernel) (by decide) rfl rfl (Nat.le_of_ble_eq_true rfl) dX5_digest_282 h (fun v22 L21 _ _ h => ?_)
      refine aw_i2l hK dX5_digest_285 ?_
      refine aw_ladd hK dX5_digest_286 ?_
      refine aw_lstore_n (lv' := [(1, aL (((31 : Int64) * (((31 : Int64) * (((31 : Int64) * (((31 : Int64) * (((31 : Int64) * (((31 : Int64) * (((31 : Int64) * (((31 : Int64) * (((31 : Int64) * v4) + v6.toInt64)) + v8.toInt64)) + v10.toInt64)) + v12.toInt64)) + v14.toInt64)) + v16.toInt64)) + v18.toInt64)) + v20.toInt64)) + v22.toInt64)), (3, aI v20), (0, aR (some j0))]) hK dX5_digest_287 rfl (by decide) rfl ?_
      refine aw_ldc2 (v := 31) hK q1703 dX5_digest_288 ?_
      refine aw_lload_n hK 0 dX5_digest_291 rfl rfl ?_
      refine aw_lmul hK dX5_digest_292 ?_
      refine aw_aload_n hK 2 dX5_digest_293 rfl rfl ?_
      obtain ⟨hj, h⟩ := fw_is_h h
      refine aw_callV_i (n := 0) hK fw_c7 hj (fun _ _ _ _ q => ct_X5_neverNow hK.zk q) (lw_V q1605 q1607 qs80 q102 q1608) (by decide +kernel) (by decide) rfl rfl (Nat.le_of_ble_eq_true rfl) dX5_digest_294 h (fun v24 L23 _ _ h => ?_)
      refine aw_i2l hK dX5_digest_297 ?_
      refine aw_ladd hK dX5_digest_298 ?_
      refine aw_lstore_n (lv' := [(1, aL (((31 : Int64) * (((31 : Int64) * (((31 : Int64) * (((31 : Int64) * (((31 : Int64) * (((31 : Int64) * (((31 : Int64) * (((31 : Int64) * (((31 : Int64) * (((31 : Int64) * v4) + v6.toInt64)) + v8.toInt64)) + v10.toInt64)) + v12.toInt64)) + v14.toInt64)) + v16.toInt64)) + v18.toInt64)) + v20.toInt64)) + v22.toInt64)) + v24.toInt64)), (3, aI v20), (0, aR (some j0))]) hK dX5_digest_299 rfl (by decide) rfl ?_
      refine aw_ldc2 (v := 31) hK q1703 dX5_digest_300 ?_
      refine aw_lload_n hK 0 dX5_digest_303 rfl rfl ?_
      refine aw_lmul hK dX5_digest_304 ?_
      refine aw_aload_n hK 2 dX5_digest_305 rfl rfl ?_
      refine aw_bipush (v := (nI 7)) hK dX5_digest_306 rfl ?_
      refine aw_bipush (v := (nI 18)) hK dX5_digest_308 rfl ?_
      refine aw_iconst (v := (nI 0)) hK dX5_digest_310 rfl ?_
      obtain ⟨hj, h⟩ := fw_is_h h
      refine aw_callV_i (n := 3) hK fw_c7 hj (fun _ _ _ _ q => ct_X5_yearsOf hK.zk q) (lw_V q1652 q1654 qs86 q102 q1655) (by decide +kernel) (by decide) rfl rfl (Nat.le_of_ble_eq_true rfl) dX5_digest_311 h (fun v26 L25 _ _ h => ?_)
      refine aw_i2l hK dX5_digest_314 ?_
      refine aw_ladd hK dX5_digest_315 ?_
      refine aw_lstore_n (lv' := [(1, aL (((31 : Int64) * (((31 : Int64) * (((31 : Int64) * (((31 : Int64) * (((31 : Int64) * (((31 : Int64) * (((31 : Int64) * (((31 : Int64) * (((31 : Int64) * (((31 : Int64) * (((31 : Int64) * v4) + v6.toInt64)) + v8.toInt64)) + v10.toInt64)) + v12.toInt64)) + v14.toInt64)) + v16.toInt64)) + v18.toInt64)) + v20.toInt64)) + v22.toInt64)) + v24.toInt64)) + v26.toInt64)), (3, aI v20), (0, aR (some j0))]) hK dX5_digest_316 rfl (by decide) rfl ?_
      refine aw_ldc2 (v := 31) hK q1703 dX5_digest_317 ?_
      refine aw_lload_n hK 0 dX5_digest_320 rfl rfl ?_
      refine aw_lmul hK dX5_digest_321 ?_
      refine aw_aload_n hK 2 dX5_digest_322 rfl rfl ?_
      refine aw_bipush (v := (nI 7)) hK dX5_digest_323 rfl ?_
      refine aw_bipush (v := (nI 18)) hK dX5_digest_325 rfl ?_
      refine aw_iconst (v := (nI 1)) hK dX5_digest_327 rfl ?_
      obtain ⟨hj, h⟩ := fw_is_h h
      refine aw_callV_i (n := 3) hK fw_c7 hj (fun _ _ _ _ q => ct_X5_yearsOf hK.zk q) (lw_V q1652 q1654 qs86 q102 q1655) (by decide +kernel) (by decide) rfl rfl (Nat.le_of_ble_eq_true rfl) dX5_digest_328 h (fun v28 L27 _ _ h => ?_)
      refine aw_i2l hK dX5_digest_331 ?_
      refine aw_ladd hK dX5_digest_332 ?_
      exact aw_lret hK dX5_digest_333 h hF
    · refine aw_aload_n hK 0 dX5_digest_137 rfl rfl ?_
      refine aw_iload_n hK 2 dX5_digest_138 rfl rfl ?_
      obtain ⟨hj, h⟩ := fw_is_h h
      refine aw_callV_i (n := 1) hK fw_c7 hj (fun _ _ _ _ q => ct_X5_isThereOne hK.zk q) (lw_V q1393 q1395 qs51 q102 q1396) (by decide +kernel) (by decide) rfl rfl (Nat.le_of_ble_eq_true rfl) dX5_digest_139 h (fun v30 L29 _ _ h => ?_)
      refine aw_if_eq (tgt := 152) hK dX5_digest_142 (by decide) h (fun h => ?_) (fun h => ?_)
      · exact w_X5_digest_152 hK hF (fun h => ih h) h
      · refine aw_aload_n hK 0 dX5_digest_145 rfl rfl ?_
        refine aw_lload_n hK 1 dX5_digest_146 rfl rfl ?_
        refine aw_iload_n hK 2 dX5_digest_147 rfl rfl ?_
        obtain ⟨hj, h⟩ := fw_is_h h
        refine aw_callV_l (n := 2) hK fw_c7 hj (fun _ _ _ _ q => ct_X5_pullerDigest hK.zk q) (lw_V q1705 q1707 qs90 q102 q1708) (by decide +kernel) (by decide) rfl rfl (Nat.le_of_ble_eq_true rfl) dX5_digest_148 h (fun v32 L31 _ _ h => ?_)
        refine aw_lstore_n (lv' := [(1, aL v32), (0, aR (some j0)), (3, aI x3)]) hK dX5_digest_151 rfl (by decide) rfl ?_
        exact aw_sub [1, 0, 2] rfl (w_X5_digest_152 hK hF (fun h => ih h) h)
set_option maxHeartbeats 4000000 in
set_option maxRecDepth 100000 in
theorem w_X5_digest_59 {K : Kx} {r9 : Int64} {L9 : LH} (hK : Ok K cX5_digest 5 RX5 10 235) (hF : Fin K (some (.long)) (some (aL r9)) L9) : ∀ {n : Nat} {j0 : Nat} {y1 : Int64} {x3 : Int32} {L : LH} {mc ms : Nat}, f_X5_digest_59 n j0 y1 x3 L = some (r9, L9, mc, ms) → AW K L mc ms 59 [(0, aR (some j0)), (1, aL y1), (3, aI x3)] [] := by
  intro n
  induction n with
  | zero =>
    intro j0 y1 x3 L mc ms h
    have h : (none : Rs Int64) = some (r9, L9, mc, ms) := h
    cases h
  | succ n ih =>
    intro j0 y1 x3 L mc ms h
    unfold f_X5_digest_59 at h
    refine aw_iload_n hK 2 dX5_digest_59 rfl rfl ?_
    refine aw_bipush (v := (nI 24)) hK dX5_digest_60 rfl ?_
    refine aw_icmp_ge (tgt := 129) hK dX5_digest_62 (by decide) h (fun h => ?_) (fun h => ?_)
    · refine aw_iconst (v := (nI 0)) hK dX5_digest_129 rfl ?_
      refine aw_istore_n (lv' := [(3, aI (nI 0)), (0, aR (some j0)), (1, aL y1)]) hK dX5_digest_130 rfl (by decide) rfl ?_
      exact aw_sub [1, 2, 0] rfl (w_X5_digest_131 hK hF h)
    · refine aw_ldc2 (v := 31) hK q1703 dX5_digest_65 ?_
      refine aw_lload_n hK 1 dX5_digest_68 rfl rfl ?_
      refine aw_lmul hK dX5_digest_69 ?_
      refine aw_aload_n hK 0 dX5_digest_70 rfl rfl ?_
      refine aw_iconst (v := (nI 0)) hK dX5_digest_71 rfl ?_
      refine aw_iload_n hK 2 dX5_digest_72 rfl rfl ?_
      obtain ⟨hj, h⟩ := fw_is_h h
      refine aw_callV_i (n := 2) hK fw_c7 hj (fun _ _ _ _ q => ct_X5_callOf hK.zk q) (lw_V q1414 q1416 qs53 q102 q1417) (by decide +kernel) (by decide) rfl rfl (Nat.le_of_ble_eq_true rfl) dX5_digest_73 h (fun v2 L1 _ _ h => ?_)
      refine aw_i2l hK dX5_digest_76 ?_
      refine aw_ladd hK dX5_digest_77 ?_
      refine aw_lstore_n (lv' := [(1, aL (((31 : Int64) * y1) + v2.toInt64)), (0, aR (some j0)), (3, aI x3)]) hK dX5_digest_78 rfl (by decide) rfl ?_
      refine aw_ldc2 (v := 31) hK q1703 dX5_digest_79 ?_
      refine aw_lload_n hK 0 dX5_digest_82 rfl rfl ?_
      refine aw_lmul hK dX5_digest_83 ?_
      refine aw_aload_n hK 1 dX5_digest_84 rfl rfl ?_
      refine aw_iconst (v := (nI 1)) hK dX5_digest_85 rfl ?_
      refine aw_iload_n hK 2 dX5_digest_86 rfl rfl ?_
      obtain ⟨hj, h⟩ := fw_is_h h
      refine aw_callV_i (n := 2) hK fw_c7 hj (fun _ _ _ _ q => ct_X5_callOf hK.zk q) (lw_V q1414 q1416 qs53 q102 q1417) (by decide +kernel) (by decide) rfl rfl (Nat.le_of_ble_eq_true rfl) dX5_digest_87 h (fun v4 L3 _ _ h => ?_)
      refine aw_i2l hK dX5_digest_90 ?_
      refine aw_ladd hK dX5_digest_91 ?_
      refine aw_lstore_n (lv' := [(1, aL (((31 : Int64) * (((31 : Int64) * y1) + v2.toInt64)) + v4.toInt64)), (0, aR (some j0)), (3, aI x3)]) hK dX5_digest_92 rfl (by decide) rfl ?_
      refine aw_iconst (v := (nI 0)) hK dX5_digest_93 rfl ?_
      refine aw_istore (lv' := [(4, aI (nI 0)), (1, aL (((31 : Int64) * (((31 : Int64) * y1) + v2.toInt64)) + v4.toInt64)), (0, aR (some j0)), (3, aI x3)]) hK dX5_digest_94 (by decide) rfl ?_
      exact aw_sub [2, 1, 3, 0] rfl (w_X5_digest_96 hK hF (fun h => ih h) h)
set_option maxHeartbeats 4000000 in
set_option maxRecDepth 100000 in
theorem w_X5_digest_33 {K : Kx} {r9 : Int64} {L9 : LH} (hK : Ok K cX5_digest 5 RX5 10 235) (hF : Fin K (some (.long)) (some (aL r9)) L9) : ∀ {n : Nat} {j0 : Nat} {y1 : Int64} {x3 : Int32} {L : LH} {mc ms : Nat}, f_X5_digest_33 n j0 y1 x3 L = some (r9, L9, mc, ms) → AW K L mc ms 33 [(0, aR (some j0)), (1, aL y1), (3, aI x3)] [] := by
  intro n
  induction n with
  | zero =>
    intro j0 y1 x3 L mc ms h
    have h : (none : Rs Int64) = some (r9, L9, mc, ms) := h
    cases h
  | succ n ih =>
    intro j0 y1 x3 L mc ms h
    unfold f_X5_digest_33 at h
    refine aw_iload_n hK 2 dX5_digest_33 rfl rfl ?_
    refine aw_iconst (v := (nI 4)) hK dX5_digest_34 rfl ?_
    refine aw_icmp_ge (tgt := 57) hK dX5_digest_35 (by decide) h (fun h => ?_) (fun h => ?_)
    · refine aw_iconst (v := (nI 0)) hK dX5_digest_57 rfl ?_
      refine aw_istore_n (lv' := [(3, aI (nI 0)), (0, aR (some j0)), (1, aL y1)]) hK dX5_digest_58 rfl (by decide) rfl ?_
      exact aw_sub [1, 2, 0] rfl (w_X5_digest_59 hK hF h)
    · refine aw_ldc2 (v := 31) hK q1703 dX5_digest_38 ?_
      refine aw_lload_n hK 1 dX5_digest_41 rfl rfl ?_
      refine aw_lmul hK dX5_digest_42 ?_
      refine aw_aload_n hK 0 dX5_digest_43 rfl rfl ?_
      refine aw_iload_n hK 2 dX5_digest_44 rfl rfl ?_
      obtain ⟨hj, h⟩ := fw_is_h h
      refine aw_callV_i (n := 1) hK fw_c7 hj (fun _ _ _ _ q => ct_X5_faultOf hK.zk q) (lw_V q1358 q1360 qs44 q102 q1361) (by decide +kernel) (by decide) rfl rfl (Nat.le_of_ble_eq_true rfl) dX5_digest_45 h (fun v2 L1 _ _ h => ?_)
      refine aw_i2l hK dX5_digest_48 ?_
      refine aw_ladd hK dX5_digest_49 ?_
      refine aw_lstore_n (lv' := [(1, aL (((31 : Int64) * y1) + v2.toInt64)), (0, aR (some j0)), (3, aI x3)]) hK dX5_digest_50 rfl (by decide) rfl ?_
      refine aw_iinc (v := (x3 + (nI 1))) (lv' := [(3, aI (x3 + (nI 1))), (1, aL (((31 : Int64) * y1) + v2.toInt64)), (0, aR (some j0))]) hK 2 dX5_digest_51 rfl rfl (by decide) rfl ?_
      refine aw_goto (tgt := 33) hK dX5_digest_54 (by decide) ?_
      exact aw_sub [2, 1, 0] rfl (ih h)
set_option maxHeartbeats 4000000 in
set_option maxRecDepth 100000 in
theorem w_X5_digest_6 {K : Kx} {r9 : Int64} {L9 : LH} (hK : Ok K cX5_digest 5 RX5 10 235) (hF : Fin K (some (.long)) (some (aL r9)) L9) : ∀ {n : Nat} {j0 : Nat} {y1 : Int64} {x3 : Int32} {L : LH} {mc ms : Nat}, f_X5_digest_6 n j0 y1 x3 L = some (r9, L9, mc, ms) → AW K L mc ms 6 [(0, aR (some j0)), (1, aL y1), (3, aI x3)] [] := by
  intro n
  induction n with
  | zero =>
    intro j0 y1 x3 L mc ms h
    have h : (none : Rs Int64) = some (r9, L9, mc, ms) := h
    cases h
  | succ n ih =>
    intro j0 y1 x3 L mc ms h
    unfold f_X5_digest_6 at h
    refine aw_iload_n hK 2 dX5_digest_6 rfl rfl ?_
    refine aw_bipush (v := (nI 8)) hK dX5_digest_7 rfl ?_
    refine aw_icmp_ge (tgt := 31) hK dX5_digest_9 (by decide) h (fun h => ?_) (fun h => ?_)
    · refine aw_iconst (v := (nI 0)) hK dX5_digest_31 rfl ?_
      refine aw_istore_n (lv' := [(3, aI (nI 0)), (0, aR (some j0)), (1, aL y1)]) hK dX5_digest_32 rfl (by decide) rfl ?_
      exact aw_sub [1, 2, 0] rfl (w_X5_digest_33 hK hF h)
    · refine aw_ldc2 (v := 31) hK q1703 dX5_digest_12 ?_
      refine aw_lload_n hK 1 dX5_digest_15 rfl rfl ?_
      refine aw_lmul hK dX5_digest_16 ?_
      refine aw_aload_n hK 0 dX5_digest_17 rfl rfl ?_
      refine aw_iload_n hK 2 dX5_digest_18 rfl rfl ?_
      obtain ⟨hj, h⟩ := fw_is_h h
      refine aw_callV_i (n := 1) hK fw_c7 hj (fun _ _ _ _ q => ct_X5_count hK.zk q) (lw_V q1704 q1691 q1692 q102 q1693) (by decide +kernel) (by decide) rfl rfl (Nat.le_of_ble_eq_true rfl) dX5_digest_19 h (fun v2 L1 _ _ h => ?_)
      refine aw_i2l hK dX5_digest_22 ?_
      refine aw_ladd hK dX5_digest_23 ?_
      refine aw_lstore_n (lv' := [(1, aL (((31 : Int64) * y1) + v2.toInt64)), (0, aR (some j0)), (3, aI x3)]) hK dX5_digest_24 rfl (by decide) rfl ?_
      refine aw_iinc (v := (x3 + (nI 1))) (lv' := [(3, aI (x3 + (nI 1))), (1, aL (((31 : Int64) * y1) + v2.toInt64)), (0, aR (some j0))]) hK 2 dX5_digest_25 rfl rfl (by decide) rfl ?_
      refine aw_goto (tgt := 6) hK dX5_digest_28 (by decide) ?_
      exact aw_sub [2, 1, 0] rfl (ih h)
set_option maxHeartbeats 4000000 in
set_option maxRecDepth 100000 in
theorem w_X5_digest_0 {K : Kx} {r9 : Int64} {L9 : LH} (hK : Ok K cX5_digest 5 RX5 10 235) (hF : Fin K (some (.long)) (some (aL r9)) L9) {j0 : Nat} {L : LH} {mc ms : Nat} (h : f_X5_digest j0 L = some (r9, L9, mc, ms)) : AW K L mc ms 0 [(0, aR (some j0))] [] := by
  unfold f_X5_digest at h
  refine aw_ldc2 (v := 17) hK q1702 dX5_digest_0 ?_
  refine aw_lstore_n (lv' := [(1, aL (17 : Int64)), (0, aR (some j0))]) hK dX5_digest_3 rfl (by decide) rfl ?_
  refine aw_iconst (v := (nI 0)) hK dX5_digest_4 rfl ?_
  refine aw_istore_n (lv' := [(3, aI (nI 0)), (1, aL (17 : Int64)), (0, aR (some j0))]) hK dX5_digest_5 rfl (by decide) rfl ?_
  exact aw_sub [2, 1, 0] rfl (w_X5_digest_6 hK hF h)
theorem ct_X5_digest {Z : fw_ZT} (hZ : fw_Zok Z) {j0 : Nat} {L : LH} {r9 : Int64} {L9 : LH} {mc ms : Nat} (h : f_X5_digest j0 L = some (r9, L9, mc, ms)) : Ct Z yX5_digest (ws_ yX5_digest cX5_digest 5 (some (.long))) 10 235 [aR (some j0)] L (some (aL r9)) L9 mc ms :=
  ct_of (own := RX5) hZ (by decide +kernel) rfl (Nat.le_of_ble_eq_true rfl) (fun K _ hK hF hini => w_X5_digest_0 hK hF h)
