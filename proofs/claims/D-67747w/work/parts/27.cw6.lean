def mi_x_guarded (d : Nat) : Mi := ("GuardedMoves", prog_1_method_34_code, 11, [], none, 5 + 3 * d + 1, 138 + 97 * d + 33, 0, 0, ⟨"GuardedMoves", "guarded", "(IIII)V"⟩)
theorem d_x_guarded_0 : decode prog_1_method_34_code 0 = .ok (.aload_n 0, 1) := by decide +kernel
theorem d_x_guarded_1 : decode prog_1_method_34_code 1 = .ok (.getfield 220, 3) := by decide +kernel
theorem d_x_guarded_4 : decode prog_1_method_34_code 4 = .ok (.iload_n 3, 1) := by decide +kernel
theorem d_x_guarded_5 : decode prog_1_method_34_code 5 = .ok (.aaload, 1) := by decide +kernel
theorem d_x_guarded_6 : decode prog_1_method_34_code 6 = .ok (.astore 5, 2) := by decide +kernel
theorem d_x_guarded_8 : decode prog_1_method_34_code 8 = .ok (.aload_n 0, 1) := by decide +kernel
theorem d_x_guarded_9 : decode prog_1_method_34_code 9 = .ok (.getfield 172, 3) := by decide +kernel
theorem d_x_guarded_12 : decode prog_1_method_34_code 12 = .ok (.getfield 129, 3) := by decide +kernel
theorem d_x_guarded_15 : decode prog_1_method_34_code 15 = .ok (.iload_n 1, 1) := by decide +kernel
theorem d_x_guarded_16 : decode prog_1_method_34_code 16 = .ok (.iaload, 1) := by decide +kernel
theorem d_x_guarded_17 : decode prog_1_method_34_code 17 = .ok (.istore 6, 2) := by decide +kernel
theorem d_x_guarded_19 : decode prog_1_method_34_code 19 = .ok (.aload_n 0, 1) := by decide +kernel
theorem d_x_guarded_20 : decode prog_1_method_34_code 20 = .ok (.getfield 172, 3) := by decide +kernel
theorem d_x_guarded_23 : decode prog_1_method_34_code 23 = .ok (.getfield 116, 3) := by decide +kernel
theorem d_x_guarded_26 : decode prog_1_method_34_code 26 = .ok (.iload_n 1, 1) := by decide +kernel
theorem d_x_guarded_27 : decode prog_1_method_34_code 27 = .ok (.iaload, 1) := by decide +kernel
theorem d_x_guarded_28 : decode prog_1_method_34_code 28 = .ok (.tableswitch 286 0 3 #[32, 47, 168, 206], 32) := by decide +kernel
theorem d_x_guarded_60 : decode prog_1_method_34_code 60 = .ok (.aload 5, 2) := by decide +kernel
theorem d_x_guarded_62 : decode prog_1_method_34_code 62 = .ok (.iload 6, 2) := by decide +kernel
theorem d_x_guarded_64 : decode prog_1_method_34_code 64 = .ok (.aload_n 0, 1) := by decide +kernel
theorem d_x_guarded_65 : decode prog_1_method_34_code 65 = .ok (.iload_n 1, 1) := by decide +kernel
theorem d_x_guarded_66 : decode prog_1_method_34_code 66 = .ok (.aload 5, 2) := by decide +kernel
theorem d_x_guarded_68 : decode prog_1_method_34_code 68 = .ok (.invokevirtual 223, 3) := by decide +kernel
theorem d_x_guarded_71 : decode prog_1_method_34_code 71 = .ok (.iastore, 1) := by decide +kernel
theorem d_x_guarded_72 : decode prog_1_method_34_code 72 = .ok (.goto 251, 3) := by decide +kernel
theorem d_x_guarded_75 : decode prog_1_method_34_code 75 = .ok (.aload_n 0, 1) := by decide +kernel
theorem d_x_guarded_76 : decode prog_1_method_34_code 76 = .ok (.iload_n 1, 1) := by decide +kernel
theorem d_x_guarded_77 : decode prog_1_method_34_code 77 = .ok (.aload 5, 2) := by decide +kernel
theorem d_x_guarded_79 : decode prog_1_method_34_code 79 = .ok (.invokevirtual 223, 3) := by decide +kernel
theorem d_x_guarded_82 : decode prog_1_method_34_code 82 = .ok (.istore 7, 2) := by decide +kernel
theorem d_x_guarded_84 : decode prog_1_method_34_code 84 = .ok (.aload_n 0, 1) := by decide +kernel
theorem d_x_guarded_85 : decode prog_1_method_34_code 85 = .ok (.iload_n 1, 1) := by decide +kernel
theorem d_x_guarded_86 : decode prog_1_method_34_code 86 = .ok (.aload 5, 2) := by decide +kernel
theorem d_x_guarded_88 : decode prog_1_method_34_code 88 = .ok (.invokevirtual 227, 3) := by decide +kernel
theorem d_x_guarded_91 : decode prog_1_method_34_code 91 = .ok (.istore 8, 2) := by decide +kernel
theorem d_x_guarded_93 : decode prog_1_method_34_code 93 = .ok (.iconst 2, 1) := by decide +kernel
theorem d_x_guarded_94 : decode prog_1_method_34_code 94 = .ok (.aload_n 0, 1) := by decide +kernel
theorem d_x_guarded_95 : decode prog_1_method_34_code 95 = .ok (.getfield 172, 3) := by decide +kernel
theorem d_x_guarded_98 : decode prog_1_method_34_code 98 = .ok (.getfield 143, 3) := by decide +kernel
theorem d_x_guarded_101 : decode prog_1_method_34_code 101 = .ok (.iload_n 1, 1) := by decide +kernel
theorem d_x_guarded_102 : decode prog_1_method_34_code 102 = .ok (.iaload, 1) := by decide +kernel
theorem d_x_guarded_103 : decode prog_1_method_34_code 103 = .ok (.iadd, 1) := by decide +kernel
theorem d_x_guarded_104 : decode prog_1_method_34_code 104 = .ok (.istore 9, 2) := by decide +kernel
theorem d_x_guarded_106 : decode prog_1_method_34_code 106 = .ok (.iload 9, 2) := by decide +kernel
theorem d_x_guarded_108 : decode prog_1_method_34_code 108 = .ok (.iconst 5, 1) := by decide +kernel
theorem d_x_guarded_109 : decode prog_1_method_34_code 109 = .ok (.if_icmp .eq 10, 3) := by decide +kernel
theorem d_x_guarded_112 : decode prog_1_method_34_code 112 = .ok (.iload 9, 2) := by decide +kernel
theorem d_x_guarded_114 : decode prog_1_method_34_code 114 = .ok (.bipush 6, 2) := by decide +kernel
theorem d_x_guarded_116 : decode prog_1_method_34_code 116 = .ok (.if_icmp .ne 32, 3) := by decide +kernel
theorem d_x_guarded_119 : decode prog_1_method_34_code 119 = .ok (.aload_n 0, 1) := by decide +kernel
theorem d_x_guarded_120 : decode prog_1_method_34_code 120 = .ok (.getfield 172, 3) := by decide +kernel
theorem d_x_guarded_123 : decode prog_1_method_34_code 123 = .ok (.getfield 97, 3) := by decide +kernel
theorem d_x_guarded_126 : decode prog_1_method_34_code 126 = .ok (.iload_n 1, 1) := by decide +kernel
theorem d_x_guarded_127 : decode prog_1_method_34_code 127 = .ok (.iaload, 1) := by decide +kernel
theorem d_x_guarded_128 : decode prog_1_method_34_code 128 = .ok (.iconst (-1), 1) := by decide +kernel
theorem d_x_guarded_129 : decode prog_1_method_34_code 129 = .ok (.if_icmp .ne 15, 3) := by decide +kernel
theorem d_x_guarded_132 : decode prog_1_method_34_code 132 = .ok (.aload_n 0, 1) := by decide +kernel
theorem d_x_guarded_133 : decode prog_1_method_34_code 133 = .ok (.getfield 172, 3) := by decide +kernel
theorem d_x_guarded_136 : decode prog_1_method_34_code 136 = .ok (.getfield 100, 3) := by decide +kernel
theorem d_x_guarded_139 : decode prog_1_method_34_code 139 = .ok (.iload_n 1, 1) := by decide +kernel
theorem d_x_guarded_140 : decode prog_1_method_34_code 140 = .ok (.iaload, 1) := by decide +kernel
theorem d_x_guarded_141 : decode prog_1_method_34_code 141 = .ok (.ifCond .ne 7, 3) := by decide +kernel
theorem d_x_guarded_144 : decode prog_1_method_34_code 144 = .ok (.iconst 1, 1) := by decide +kernel
theorem d_x_guarded_145 : decode prog_1_method_34_code 145 = .ok (.goto 4, 3) := by decide +kernel
theorem d_x_guarded_148 : decode prog_1_method_34_code 148 = .ok (.iconst 0, 1) := by decide +kernel
theorem d_x_guarded_149 : decode prog_1_method_34_code 149 = .ok (.istore 10, 2) := by decide +kernel
theorem d_x_guarded_151 : decode prog_1_method_34_code 151 = .ok (.iload 10, 2) := by decide +kernel
theorem d_x_guarded_153 : decode prog_1_method_34_code 153 = .ok (.ifCond .eq 15, 3) := by decide +kernel
theorem d_x_guarded_156 : decode prog_1_method_34_code 156 = .ok (.aload_n 0, 1) := by decide +kernel
theorem d_x_guarded_157 : decode prog_1_method_34_code 157 = .ok (.iload_n 1, 1) := by decide +kernel
theorem d_x_guarded_158 : decode prog_1_method_34_code 158 = .ok (.iload_n 2, 1) := by decide +kernel
theorem d_x_guarded_159 : decode prog_1_method_34_code 159 = .ok (.iload 8, 2) := by decide +kernel
theorem d_x_guarded_161 : decode prog_1_method_34_code 161 = .ok (.iconst 1, 1) := by decide +kernel
theorem d_x_guarded_162 : decode prog_1_method_34_code 162 = .ok (.invokevirtual 258, 3) := by decide +kernel
theorem d_x_guarded_165 : decode prog_1_method_34_code 165 = .ok (.goto 5, 3) := by decide +kernel
theorem d_x_guarded_168 : decode prog_1_method_34_code 168 = .ok (.iload 8, 2) := by decide +kernel
theorem d_x_guarded_170 : decode prog_1_method_34_code 170 = .ok (.istore 8, 2) := by decide +kernel
theorem d_x_guarded_172 : decode prog_1_method_34_code 172 = .ok (.aload 5, 2) := by decide +kernel
theorem d_x_guarded_174 : decode prog_1_method_34_code 174 = .ok (.iload 6, 2) := by decide +kernel
theorem d_x_guarded_176 : decode prog_1_method_34_code 176 = .ok (.aload_n 0, 1) := by decide +kernel
theorem d_x_guarded_177 : decode prog_1_method_34_code 177 = .ok (.iload_n 1, 1) := by decide +kernel
theorem d_x_guarded_178 : decode prog_1_method_34_code 178 = .ok (.iload 9, 2) := by decide +kernel
theorem d_x_guarded_180 : decode prog_1_method_34_code 180 = .ok (.aload_n 0, 1) := by decide +kernel
theorem d_x_guarded_181 : decode prog_1_method_34_code 181 = .ok (.invokevirtual 199, 3) := by decide +kernel
theorem d_x_guarded_184 : decode prog_1_method_34_code 184 = .ok (.iload 7, 2) := by decide +kernel
theorem d_x_guarded_186 : decode prog_1_method_34_code 186 = .ok (.iload 8, 2) := by decide +kernel
theorem d_x_guarded_188 : decode prog_1_method_34_code 188 = .ok (.iconst 0, 1) := by decide +kernel
theorem d_x_guarded_189 : decode prog_1_method_34_code 189 = .ok (.invokevirtual 202, 3) := by decide +kernel
theorem d_x_guarded_192 : decode prog_1_method_34_code 192 = .ok (.iastore, 1) := by decide +kernel
theorem d_x_guarded_193 : decode prog_1_method_34_code 193 = .ok (.goto 130, 3) := by decide +kernel
theorem d_x_guarded_196 : decode prog_1_method_34_code 196 = .ok (.aload_n 0, 1) := by decide +kernel
theorem d_x_guarded_197 : decode prog_1_method_34_code 197 = .ok (.iload_n 1, 1) := by decide +kernel
theorem d_x_guarded_198 : decode prog_1_method_34_code 198 = .ok (.iload_n 2, 1) := by decide +kernel
theorem d_x_guarded_199 : decode prog_1_method_34_code 199 = .ok (.aload_n 0, 1) := by decide +kernel
theorem d_x_guarded_200 : decode prog_1_method_34_code 200 = .ok (.iload_n 1, 1) := by decide +kernel
theorem d_x_guarded_201 : decode prog_1_method_34_code 201 = .ok (.aload 5, 2) := by decide +kernel
theorem d_x_guarded_203 : decode prog_1_method_34_code 203 = .ok (.invokevirtual 223, 3) := by decide +kernel
theorem d_x_guarded_206 : decode prog_1_method_34_code 206 = .ok (.invokevirtual 262, 3) := by decide +kernel
theorem d_x_guarded_209 : decode prog_1_method_34_code 209 = .ok (.istore 7, 2) := by decide +kernel
theorem d_x_guarded_211 : decode prog_1_method_34_code 211 = .ok (.aload 5, 2) := by decide +kernel
theorem d_x_guarded_213 : decode prog_1_method_34_code 213 = .ok (.iload 6, 2) := by decide +kernel
theorem d_x_guarded_215 : decode prog_1_method_34_code 215 = .ok (.aload_n 0, 1) := by decide +kernel
theorem d_x_guarded_216 : decode prog_1_method_34_code 216 = .ok (.iload_n 1, 1) := by decide +kernel
theorem d_x_guarded_217 : decode prog_1_method_34_code 217 = .ok (.bipush 14, 2) := by decide +kernel
theorem d_x_guarded_219 : decode prog_1_method_34_code 219 = .ok (.aload_n 0, 1) := by decide +kernel
theorem d_x_guarded_220 : decode prog_1_method_34_code 220 = .ok (.invokevirtual 199, 3) := by decide +kernel
theorem d_x_guarded_223 : decode prog_1_method_34_code 223 = .ok (.iload 7, 2) := by decide +kernel
theorem d_x_guarded_225 : decode prog_1_method_34_code 225 = .ok (.iconst 0, 1) := by decide +kernel
theorem d_x_guarded_226 : decode prog_1_method_34_code 226 = .ok (.iconst 0, 1) := by decide +kernel
theorem d_x_guarded_227 : decode prog_1_method_34_code 227 = .ok (.invokevirtual 202, 3) := by decide +kernel
theorem d_x_guarded_230 : decode prog_1_method_34_code 230 = .ok (.iastore, 1) := by decide +kernel
theorem d_x_guarded_231 : decode prog_1_method_34_code 231 = .ok (.goto 92, 3) := by decide +kernel
theorem d_x_guarded_234 : decode prog_1_method_34_code 234 = .ok (.aload_n 0, 1) := by decide +kernel
theorem d_x_guarded_235 : decode prog_1_method_34_code 235 = .ok (.iload_n 1, 1) := by decide +kernel
theorem d_x_guarded_236 : decode prog_1_method_34_code 236 = .ok (.aload 5, 2) := by decide +kernel
theorem d_x_guarded_238 : decode prog_1_method_34_code 238 = .ok (.invokevirtual 223, 3) := by decide +kernel
theorem d_x_guarded_241 : decode prog_1_method_34_code 241 = .ok (.istore 7, 2) := by decide +kernel
theorem d_x_guarded_243 : decode prog_1_method_34_code 243 = .ok (.aload_n 0, 1) := by decide +kernel
theorem d_x_guarded_244 : decode prog_1_method_34_code 244 = .ok (.iload_n 1, 1) := by decide +kernel
theorem d_x_guarded_245 : decode prog_1_method_34_code 245 = .ok (.aload 5, 2) := by decide +kernel
theorem d_x_guarded_247 : decode prog_1_method_34_code 247 = .ok (.invokevirtual 227, 3) := by decide +kernel
theorem d_x_guarded_250 : decode prog_1_method_34_code 250 = .ok (.istore 8, 2) := by decide +kernel
theorem d_x_guarded_252 : decode prog_1_method_34_code 252 = .ok (.aload_n 0, 1) := by decide +kernel
theorem d_x_guarded_253 : decode prog_1_method_34_code 253 = .ok (.iload_n 1, 1) := by decide +kernel
theorem d_x_guarded_254 : decode prog_1_method_34_code 254 = .ok (.iload_n 2, 1) := by decide +kernel
theorem d_x_guarded_255 : decode prog_1_method_34_code 255 = .ok (.iload 7, 2) := by decide +kernel
theorem d_x_guarded_257 : decode prog_1_method_34_code 257 = .ok (.invokevirtual 262, 3) := by decide +kernel
theorem d_x_guarded_260 : decode prog_1_method_34_code 260 = .ok (.istore 7, 2) := by decide +kernel
theorem d_x_guarded_262 : decode prog_1_method_34_code 262 = .ok (.aload_n 0, 1) := by decide +kernel
theorem d_x_guarded_263 : decode prog_1_method_34_code 263 = .ok (.iload_n 1, 1) := by decide +kernel
theorem d_x_guarded_264 : decode prog_1_method_34_code 264 = .ok (.bipush 14, 2) := by decide +kernel
theorem d_x_guarded_266 : decode prog_1_method_34_code 266 = .ok (.aload_n 0, 1) := by decide +kernel
theorem d_x_guarded_267 : decode prog_1_method_34_code 267 = .ok (.invokevirtual 199, 3) := by decide +kernel
theorem d_x_guarded_270 : decode prog_1_method_34_code 270 = .ok (.iload 7, 2) := by decide +kernel
theorem d_x_guarded_272 : decode prog_1_method_34_code 272 = .ok (.iconst 0, 1) := by decide +kernel
theorem d_x_guarded_273 : decode prog_1_method_34_code 273 = .ok (.iconst 0, 1) := by decide +kernel
theorem d_x_guarded_274 : decode prog_1_method_34_code 274 = .ok (.invokevirtual 202, 3) := by decide +kernel
theorem d_x_guarded_277 : decode prog_1_method_34_code 277 = .ok (.istore 9, 2) := by decide +kernel
theorem d_x_guarded_279 : decode prog_1_method_34_code 279 = .ok (.aload_n 0, 1) := by decide +kernel
theorem d_x_guarded_280 : decode prog_1_method_34_code 280 = .ok (.iload_n 1, 1) := by decide +kernel
theorem d_x_guarded_281 : decode prog_1_method_34_code 281 = .ok (.bipush 13, 2) := by decide +kernel
theorem d_x_guarded_283 : decode prog_1_method_34_code 283 = .ok (.aload_n 0, 1) := by decide +kernel
theorem d_x_guarded_284 : decode prog_1_method_34_code 284 = .ok (.invokevirtual 199, 3) := by decide +kernel
theorem d_x_guarded_287 : decode prog_1_method_34_code 287 = .ok (.iload_n 2, 1) := by decide +kernel
theorem d_x_guarded_288 : decode prog_1_method_34_code 288 = .ok (.iload 8, 2) := by decide +kernel
theorem d_x_guarded_290 : decode prog_1_method_34_code 290 = .ok (.iload 9, 2) := by decide +kernel
theorem d_x_guarded_292 : decode prog_1_method_34_code 292 = .ok (.invokevirtual 202, 3) := by decide +kernel
theorem d_x_guarded_295 : decode prog_1_method_34_code 295 = .ok (.istore 8, 2) := by decide +kernel
theorem d_x_guarded_297 : decode prog_1_method_34_code 297 = .ok (.aload_n 0, 1) := by decide +kernel
theorem d_x_guarded_298 : decode prog_1_method_34_code 298 = .ok (.iload_n 1, 1) := by decide +kernel
theorem d_x_guarded_299 : decode prog_1_method_34_code 299 = .ok (.bipush 15, 2) := by decide +kernel
theorem d_x_guarded_301 : decode prog_1_method_34_code 301 = .ok (.iload 7, 2) := by decide +kernel
theorem d_x_guarded_303 : decode prog_1_method_34_code 303 = .ok (.iload 8, 2) := by decide +kernel
theorem d_x_guarded_305 : decode prog_1_method_34_code 305 = .ok (.iconst 0, 1) := by decide +kernel
theorem d_x_guarded_306 : decode prog_1_method_34_code 306 = .ok (.iconst 0, 1) := by decide +kernel
theorem d_x_guarded_307 : decode prog_1_method_34_code 307 = .ok (.invokevirtual 202, 3) := by decide +kernel
theorem d_x_guarded_310 : decode prog_1_method_34_code 310 = .ok (.pop, 1) := by decide +kernel
theorem d_x_guarded_311 : decode prog_1_method_34_code 311 = .ok (.goto 12, 3) := by decide +kernel
theorem d_x_guarded_314 : decode prog_1_method_34_code 314 = .ok (.aload_n 0, 1) := by decide +kernel
theorem d_x_guarded_315 : decode prog_1_method_34_code 315 = .ok (.iload_n 1, 1) := by decide +kernel
theorem d_x_guarded_316 : decode prog_1_method_34_code 316 = .ok (.iload_n 2, 1) := by decide +kernel
theorem d_x_guarded_317 : decode prog_1_method_34_code 317 = .ok (.iload_n 3, 1) := by decide +kernel
theorem d_x_guarded_318 : decode prog_1_method_34_code 318 = .ok (.iload 4, 2) := by decide +kernel
theorem d_x_guarded_320 : decode prog_1_method_34_code 320 = .ok (.invokevirtual 233, 3) := by decide +kernel
theorem d_x_guarded_323 : decode prog_1_method_34_code 323 = .ok (.return_, 1) := by decide +kernel
theorem kc_x_guarded (d : Nat) : Kw (m_w (mi_x_guarded d )) := ⟨(in_t3 (List.mem_of_getElem? (i := 186) rfl)), rfl⟩
theorem mv_x_guarded (d : Nat) : MV (mi_x_guarded d ) "GuardedMoves" 4 := ⟨kw_665, ks_35, kc_x_guarded d , kw_1, ⟨⟨(by show ("GuardedMoves" : String) ≠ "java/lang/invoke/MethodHandle"; decide), (by show ("GuardedMoves" : String) ≠ "java/lang/invoke/VarHandle"; decide)⟩, (by show (parseMethodDescriptor "(IIII)V").map (fun d => d.parameters.length) = some 4; decide +kernel)⟩⟩
def mi_x_side (d : Nat) : Mi := ("GuardedMoves", prog_1_method_31_code, 7, [], none, 5 + 3 * d + 2, 138 + 97 * d + 67, 0, 0, ⟨"GuardedMoves", "side", "(IIIII)V"⟩)
theorem d_x_side_0 : decode prog_1_method_31_code 0 = .ok (.iload_n 1, 1) := by decide +kernel
theorem d_x_side_1 : decode prog_1_method_31_code 1 = .ok (.istore 6, 2) := by decide +kernel
theorem d_x_side_3 : decode prog_1_method_31_code 3 = .ok (.iload 6, 2) := by decide +kernel
theorem d_x_side_5 : decode prog_1_method_31_code 5 = .ok (.iload_n 2, 1) := by decide +kernel
theorem d_x_side_6 : decode prog_1_method_31_code 6 = .ok (.if_icmp .ge 28, 3) := by decide +kernel
theorem d_x_side_9 : decode prog_1_method_31_code 9 = .ok (.aload_n 0, 1) := by decide +kernel
theorem d_x_side_10 : decode prog_1_method_31_code 10 = .ok (.iload 6, 2) := by decide +kernel
theorem d_x_side_12 : decode prog_1_method_31_code 12 = .ok (.iload_n 3, 1) := by decide +kernel
theorem d_x_side_13 : decode prog_1_method_31_code 13 = .ok (.iload 4, 2) := by decide +kernel
theorem d_x_side_15 : decode prog_1_method_31_code 15 = .ok (.iload 5, 2) := by decide +kernel
theorem d_x_side_17 : decode prog_1_method_31_code 17 = .ok (.invokevirtual 253, 3) := by decide +kernel
theorem d_x_side_20 : decode prog_1_method_31_code 20 = .ok (.aload_n 0, 1) := by decide +kernel
theorem d_x_side_21 : decode prog_1_method_31_code 21 = .ok (.getfield 172, 3) := by decide +kernel
theorem d_x_side_24 : decode prog_1_method_31_code 24 = .ok (.iload 6, 2) := by decide +kernel
theorem d_x_side_26 : decode prog_1_method_31_code 26 = .ok (.invokevirtual 217, 3) := by decide +kernel
theorem d_x_side_29 : decode prog_1_method_31_code 29 = .ok (.istore 6, 2) := by decide +kernel
theorem d_x_side_31 : decode prog_1_method_31_code 31 = .ok (.goto (-28), 3) := by decide +kernel
theorem d_x_side_34 : decode prog_1_method_31_code 34 = .ok (.return_, 1) := by decide +kernel
theorem kc_x_side (d : Nat) : Kw (m_w (mi_x_side d )) := ⟨(in_t3 (List.mem_of_getElem? (i := 182) rfl)), rfl⟩
theorem mv_x_side (d : Nat) : MV (mi_x_side d ) "GuardedMoves" 5 := ⟨kw_661, ks_34, kc_x_side d , kw_1, ⟨⟨(by show ("GuardedMoves" : String) ≠ "java/lang/invoke/MethodHandle"; decide), (by show ("GuardedMoves" : String) ≠ "java/lang/invoke/VarHandle"; decide)⟩, (by show (parseMethodDescriptor "(IIIII)V").map (fun d => d.parameters.length) = some 5; decide +kernel)⟩⟩
def mi_x_convert (d : Nat) : Mi := ("GuardedMoves", prog_1_method_29_code, 10, [], none, 5 + 3 * d, 138 + 97 * d, 0, 0, ⟨"GuardedMoves", "convert", "(IIII)V"⟩)
theorem d_x_convert_0 : decode prog_1_method_29_code 0 = .ok (.aload_n 0, 1) := by decide +kernel
theorem d_x_convert_1 : decode prog_1_method_29_code 1 = .ok (.getfield 220, 3) := by decide +kernel
theorem d_x_convert_4 : decode prog_1_method_29_code 4 = .ok (.iload_n 3, 1) := by decide +kernel
theorem d_x_convert_5 : decode prog_1_method_29_code 5 = .ok (.aaload, 1) := by decide +kernel
theorem d_x_convert_6 : decode prog_1_method_29_code 6 = .ok (.astore 5, 2) := by decide +kernel
theorem d_x_convert_8 : decode prog_1_method_29_code 8 = .ok (.aload_n 0, 1) := by decide +kernel
theorem d_x_convert_9 : decode prog_1_method_29_code 9 = .ok (.iload_n 1, 1) := by decide +kernel
theorem d_x_convert_10 : decode prog_1_method_29_code 10 = .ok (.aload 5, 2) := by decide +kernel
theorem d_x_convert_12 : decode prog_1_method_29_code 12 = .ok (.invokevirtual 240, 3) := by decide +kernel
theorem d_x_convert_15 : decode prog_1_method_29_code 15 = .ok (.istore 6, 2) := by decide +kernel
theorem d_x_convert_17 : decode prog_1_method_29_code 17 = .ok (.aload_n 0, 1) := by decide +kernel
theorem d_x_convert_18 : decode prog_1_method_29_code 18 = .ok (.iload_n 3, 1) := by decide +kernel
theorem d_x_convert_19 : decode prog_1_method_29_code 19 = .ok (.iload 4, 2) := by decide +kernel
theorem d_x_convert_21 : decode prog_1_method_29_code 21 = .ok (.invokevirtual 246, 3) := by decide +kernel
theorem d_x_convert_24 : decode prog_1_method_29_code 24 = .ok (.aload_n 0, 1) := by decide +kernel
theorem d_x_convert_25 : decode prog_1_method_29_code 25 = .ok (.iload_n 3, 1) := by decide +kernel
theorem d_x_convert_26 : decode prog_1_method_29_code 26 = .ok (.iload 4, 2) := by decide +kernel
theorem d_x_convert_28 : decode prog_1_method_29_code 28 = .ok (.iconst 1, 1) := by decide +kernel
theorem d_x_convert_29 : decode prog_1_method_29_code 29 = .ok (.iadd, 1) := by decide +kernel
theorem d_x_convert_30 : decode prog_1_method_29_code 30 = .ok (.invokevirtual 246, 3) := by decide +kernel
theorem d_x_convert_33 : decode prog_1_method_29_code 33 = .ok (.aload_n 0, 1) := by decide +kernel
theorem d_x_convert_34 : decode prog_1_method_29_code 34 = .ok (.getfield 172, 3) := by decide +kernel
theorem d_x_convert_37 : decode prog_1_method_29_code 37 = .ok (.getfield 151, 3) := by decide +kernel
theorem d_x_convert_40 : decode prog_1_method_29_code 40 = .ok (.iload_n 1, 1) := by decide +kernel
theorem d_x_convert_41 : decode prog_1_method_29_code 41 = .ok (.iaload, 1) := by decide +kernel
theorem d_x_convert_42 : decode prog_1_method_29_code 42 = .ok (.iload_n 1, 1) := by decide +kernel
theorem d_x_convert_43 : decode prog_1_method_29_code 43 = .ok (.iconst 1, 1) := by decide +kernel
theorem d_x_convert_44 : decode prog_1_method_29_code 44 = .ok (.iadd, 1) := by decide +kernel
theorem d_x_convert_45 : decode prog_1_method_29_code 45 = .ok (.if_icmp .le 54, 3) := by decide +kernel
theorem d_x_convert_48 : decode prog_1_method_29_code 48 = .ok (.iload_n 2, 1) := by decide +kernel
theorem d_x_convert_49 : decode prog_1_method_29_code 49 = .ok (.iconst (-1), 1) := by decide +kernel
theorem d_x_convert_50 : decode prog_1_method_29_code 50 = .ok (.if_icmp .ne 8, 3) := by decide +kernel
theorem d_x_convert_53 : decode prog_1_method_29_code 53 = .ok (.iload 6, 2) := by decide +kernel
theorem d_x_convert_55 : decode prog_1_method_29_code 55 = .ok (.goto 18, 3) := by decide +kernel
theorem d_x_convert_58 : decode prog_1_method_29_code 58 = .ok (.aload_n 0, 1) := by decide +kernel
theorem d_x_convert_59 : decode prog_1_method_29_code 59 = .ok (.iload_n 1, 1) := by decide +kernel
theorem d_x_convert_60 : decode prog_1_method_29_code 60 = .ok (.bipush 7, 2) := by decide +kernel
theorem d_x_convert_62 : decode prog_1_method_29_code 62 = .ok (.aload_n 0, 1) := by decide +kernel
theorem d_x_convert_63 : decode prog_1_method_29_code 63 = .ok (.invokevirtual 199, 3) := by decide +kernel
theorem d_x_convert_66 : decode prog_1_method_29_code 66 = .ok (.iload_n 2, 1) := by decide +kernel
theorem d_x_convert_67 : decode prog_1_method_29_code 67 = .ok (.iload 6, 2) := by decide +kernel
theorem d_x_convert_69 : decode prog_1_method_29_code 69 = .ok (.iconst 0, 1) := by decide +kernel
theorem d_x_convert_70 : decode prog_1_method_29_code 70 = .ok (.invokevirtual 202, 3) := by decide +kernel
theorem d_x_convert_73 : decode prog_1_method_29_code 73 = .ok (.istore 7, 2) := by decide +kernel
theorem d_x_convert_75 : decode prog_1_method_29_code 75 = .ok (.aload_n 0, 1) := by decide +kernel
theorem d_x_convert_76 : decode prog_1_method_29_code 76 = .ok (.iload_n 1, 1) := by decide +kernel
theorem d_x_convert_77 : decode prog_1_method_29_code 77 = .ok (.iconst 1, 1) := by decide +kernel
theorem d_x_convert_78 : decode prog_1_method_29_code 78 = .ok (.iadd, 1) := by decide +kernel
theorem d_x_convert_79 : decode prog_1_method_29_code 79 = .ok (.aload_n 0, 1) := by decide +kernel
theorem d_x_convert_80 : decode prog_1_method_29_code 80 = .ok (.getfield 172, 3) := by decide +kernel
theorem d_x_convert_83 : decode prog_1_method_29_code 83 = .ok (.getfield 151, 3) := by decide +kernel
theorem d_x_convert_86 : decode prog_1_method_29_code 86 = .ok (.iload_n 1, 1) := by decide +kernel
theorem d_x_convert_87 : decode prog_1_method_29_code 87 = .ok (.iaload, 1) := by decide +kernel
theorem d_x_convert_88 : decode prog_1_method_29_code 88 = .ok (.iload 7, 2) := by decide +kernel
theorem d_x_convert_90 : decode prog_1_method_29_code 90 = .ok (.iload 4, 2) := by decide +kernel
theorem d_x_convert_92 : decode prog_1_method_29_code 92 = .ok (.iload 4, 2) := by decide +kernel
theorem d_x_convert_94 : decode prog_1_method_29_code 94 = .ok (.iconst 2, 1) := by decide +kernel
theorem d_x_convert_95 : decode prog_1_method_29_code 95 = .ok (.iadd, 1) := by decide +kernel
theorem d_x_convert_96 : decode prog_1_method_29_code 96 = .ok (.invokevirtual 249, 3) := by decide +kernel
theorem d_x_convert_99 : decode prog_1_method_29_code 99 = .ok (.aload_n 0, 1) := by decide +kernel
theorem d_x_convert_100 : decode prog_1_method_29_code 100 = .ok (.getfield 172, 3) := by decide +kernel
theorem d_x_convert_103 : decode prog_1_method_29_code 103 = .ok (.getfield 158, 3) := by decide +kernel
theorem d_x_convert_106 : decode prog_1_method_29_code 106 = .ok (.iload_n 1, 1) := by decide +kernel
theorem d_x_convert_107 : decode prog_1_method_29_code 107 = .ok (.iaload, 1) := by decide +kernel
theorem d_x_convert_108 : decode prog_1_method_29_code 108 = .ok (.aload_n 0, 1) := by decide +kernel
theorem d_x_convert_109 : decode prog_1_method_29_code 109 = .ok (.getfield 172, 3) := by decide +kernel
theorem d_x_convert_112 : decode prog_1_method_29_code 112 = .ok (.getfield 151, 3) := by decide +kernel
theorem d_x_convert_115 : decode prog_1_method_29_code 115 = .ok (.iload_n 1, 1) := by decide +kernel
theorem d_x_convert_116 : decode prog_1_method_29_code 116 = .ok (.iaload, 1) := by decide +kernel
theorem d_x_convert_117 : decode prog_1_method_29_code 117 = .ok (.if_icmp .le 88, 3) := by decide +kernel
theorem d_x_convert_120 : decode prog_1_method_29_code 120 = .ok (.aload_n 0, 1) := by decide +kernel
theorem d_x_convert_121 : decode prog_1_method_29_code 121 = .ok (.iload_n 1, 1) := by decide +kernel
theorem d_x_convert_122 : decode prog_1_method_29_code 122 = .ok (.iconst 0, 1) := by decide +kernel
theorem d_x_convert_123 : decode prog_1_method_29_code 123 = .ok (.invokevirtual 206, 3) := by decide +kernel
theorem d_x_convert_126 : decode prog_1_method_29_code 126 = .ok (.istore 7, 2) := by decide +kernel
theorem d_x_convert_128 : decode prog_1_method_29_code 128 = .ok (.aload_n 0, 1) := by decide +kernel
theorem d_x_convert_129 : decode prog_1_method_29_code 129 = .ok (.iload_n 1, 1) := by decide +kernel
theorem d_x_convert_130 : decode prog_1_method_29_code 130 = .ok (.bipush 10, 2) := by decide +kernel
theorem d_x_convert_132 : decode prog_1_method_29_code 132 = .ok (.aload_n 0, 1) := by decide +kernel
theorem d_x_convert_133 : decode prog_1_method_29_code 133 = .ok (.invokevirtual 199, 3) := by decide +kernel
theorem d_x_convert_136 : decode prog_1_method_29_code 136 = .ok (.iload 6, 2) := by decide +kernel
theorem d_x_convert_138 : decode prog_1_method_29_code 138 = .ok (.iload 7, 2) := by decide +kernel
theorem d_x_convert_140 : decode prog_1_method_29_code 140 = .ok (.iconst 0, 1) := by decide +kernel
theorem d_x_convert_141 : decode prog_1_method_29_code 141 = .ok (.invokevirtual 202, 3) := by decide +kernel
theorem d_x_convert_144 : decode prog_1_method_29_code 144 = .ok (.istore 8, 2) := by decide +kernel
theorem d_x_convert_146 : decode prog_1_method_29_code 146 = .ok (.iload_n 2, 1) := by decide +kernel
theorem d_x_convert_147 : decode prog_1_method_29_code 147 = .ok (.iconst (-1), 1) := by decide +kernel
theorem d_x_convert_148 : decode prog_1_method_29_code 148 = .ok (.if_icmp .ne 8, 3) := by decide +kernel
theorem d_x_convert_151 : decode prog_1_method_29_code 151 = .ok (.iload 8, 2) := by decide +kernel
theorem d_x_convert_153 : decode prog_1_method_29_code 153 = .ok (.goto 18, 3) := by decide +kernel
theorem d_x_convert_156 : decode prog_1_method_29_code 156 = .ok (.aload_n 0, 1) := by decide +kernel
theorem d_x_convert_157 : decode prog_1_method_29_code 157 = .ok (.iload_n 1, 1) := by decide +kernel
theorem d_x_convert_158 : decode prog_1_method_29_code 158 = .ok (.bipush 7, 2) := by decide +kernel
theorem d_x_convert_160 : decode prog_1_method_29_code 160 = .ok (.aload_n 0, 1) := by decide +kernel
theorem d_x_convert_161 : decode prog_1_method_29_code 161 = .ok (.invokevirtual 199, 3) := by decide +kernel
theorem d_x_convert_164 : decode prog_1_method_29_code 164 = .ok (.iload_n 2, 1) := by decide +kernel
theorem d_x_convert_165 : decode prog_1_method_29_code 165 = .ok (.iload 8, 2) := by decide +kernel
theorem d_x_convert_167 : decode prog_1_method_29_code 167 = .ok (.iconst 0, 1) := by decide +kernel
theorem d_x_convert_168 : decode prog_1_method_29_code 168 = .ok (.invokevirtual 202, 3) := by decide +kernel
theorem d_x_convert_171 : decode prog_1_method_29_code 171 = .ok (.istore 8, 2) := by decide +kernel
theorem d_x_convert_173 : decode prog_1_method_29_code 173 = .ok (.aload_n 0, 1) := by decide +kernel
theorem d_x_convert_174 : decode prog_1_method_29_code 174 = .ok (.aload_n 0, 1) := by decide +kernel
theorem d_x_convert_175 : decode prog_1_method_29_code 175 = .ok (.getfield 172, 3) := by decide +kernel
theorem d_x_convert_178 : decode prog_1_method_29_code 178 = .ok (.getfield 151, 3) := by decide +kernel
theorem d_x_convert_181 : decode prog_1_method_29_code 181 = .ok (.iload_n 1, 1) := by decide +kernel
theorem d_x_convert_182 : decode prog_1_method_29_code 182 = .ok (.iaload, 1) := by decide +kernel
theorem d_x_convert_183 : decode prog_1_method_29_code 183 = .ok (.aload_n 0, 1) := by decide +kernel
theorem d_x_convert_184 : decode prog_1_method_29_code 184 = .ok (.getfield 172, 3) := by decide +kernel
theorem d_x_convert_187 : decode prog_1_method_29_code 187 = .ok (.getfield 158, 3) := by decide +kernel
theorem d_x_convert_190 : decode prog_1_method_29_code 190 = .ok (.iload_n 1, 1) := by decide +kernel
theorem d_x_convert_191 : decode prog_1_method_29_code 191 = .ok (.iaload, 1) := by decide +kernel
theorem d_x_convert_192 : decode prog_1_method_29_code 192 = .ok (.iload 8, 2) := by decide +kernel
theorem d_x_convert_194 : decode prog_1_method_29_code 194 = .ok (.iload 4, 2) := by decide +kernel
theorem d_x_convert_196 : decode prog_1_method_29_code 196 = .ok (.iconst 1, 1) := by decide +kernel
theorem d_x_convert_197 : decode prog_1_method_29_code 197 = .ok (.iadd, 1) := by decide +kernel
theorem d_x_convert_198 : decode prog_1_method_29_code 198 = .ok (.iload 4, 2) := by decide +kernel
theorem d_x_convert_200 : decode prog_1_method_29_code 200 = .ok (.iconst 2, 1) := by decide +kernel
theorem d_x_convert_201 : decode prog_1_method_29_code 201 = .ok (.iadd, 1) := by decide +kernel
theorem d_x_convert_202 : decode prog_1_method_29_code 202 = .ok (.invokevirtual 249, 3) := by decide +kernel
theorem d_x_convert_205 : decode prog_1_method_29_code 205 = .ok (.iconst 0, 1) := by decide +kernel
theorem d_x_convert_206 : decode prog_1_method_29_code 206 = .ok (.istore 7, 2) := by decide +kernel
theorem d_x_convert_208 : decode prog_1_method_29_code 208 = .ok (.iload 7, 2) := by decide +kernel
theorem d_x_convert_210 : decode prog_1_method_29_code 210 = .ok (.bipush 16, 2) := by decide +kernel
theorem d_x_convert_212 : decode prog_1_method_29_code 212 = .ok (.if_icmp .ge 87, 3) := by decide +kernel
theorem d_x_convert_215 : decode prog_1_method_29_code 215 = .ok (.aload_n 0, 1) := by decide +kernel
theorem d_x_convert_216 : decode prog_1_method_29_code 216 = .ok (.getfield 220, 3) := by decide +kernel
theorem d_x_convert_219 : decode prog_1_method_29_code 219 = .ok (.iload 4, 2) := by decide +kernel
theorem d_x_convert_221 : decode prog_1_method_29_code 221 = .ok (.aaload, 1) := by decide +kernel
theorem d_x_convert_222 : decode prog_1_method_29_code 222 = .ok (.iload 7, 2) := by decide +kernel
theorem d_x_convert_224 : decode prog_1_method_29_code 224 = .ok (.iaload, 1) := by decide +kernel
theorem d_x_convert_225 : decode prog_1_method_29_code 225 = .ok (.istore 8, 2) := by decide +kernel
theorem d_x_convert_227 : decode prog_1_method_29_code 227 = .ok (.aload_n 0, 1) := by decide +kernel
theorem d_x_convert_228 : decode prog_1_method_29_code 228 = .ok (.getfield 220, 3) := by decide +kernel
theorem d_x_convert_231 : decode prog_1_method_29_code 231 = .ok (.iload 4, 2) := by decide +kernel
theorem d_x_convert_233 : decode prog_1_method_29_code 233 = .ok (.iconst 1, 1) := by decide +kernel
theorem d_x_convert_234 : decode prog_1_method_29_code 234 = .ok (.iadd, 1) := by decide +kernel
theorem d_x_convert_235 : decode prog_1_method_29_code 235 = .ok (.aaload, 1) := by decide +kernel
theorem d_x_convert_236 : decode prog_1_method_29_code 236 = .ok (.iload 7, 2) := by decide +kernel
theorem d_x_convert_238 : decode prog_1_method_29_code 238 = .ok (.iaload, 1) := by decide +kernel
theorem d_x_convert_239 : decode prog_1_method_29_code 239 = .ok (.istore 9, 2) := by decide +kernel
theorem d_x_convert_241 : decode prog_1_method_29_code 241 = .ok (.aload_n 0, 1) := by decide +kernel
theorem d_x_convert_242 : decode prog_1_method_29_code 242 = .ok (.getfield 220, 3) := by decide +kernel
theorem d_x_convert_245 : decode prog_1_method_29_code 245 = .ok (.iload 4, 2) := by decide +kernel
theorem d_x_convert_247 : decode prog_1_method_29_code 247 = .ok (.aaload, 1) := by decide +kernel
theorem d_x_convert_248 : decode prog_1_method_29_code 248 = .ok (.iload 7, 2) := by decide +kernel
theorem d_x_convert_250 : decode prog_1_method_29_code 250 = .ok (.iload 8, 2) := by decide +kernel
theorem d_x_convert_252 : decode prog_1_method_29_code 252 = .ok (.aload 5, 2) := by decide +kernel
theorem d_x_convert_254 : decode prog_1_method_29_code 254 = .ok (.iload 7, 2) := by decide +kernel
theorem d_x_convert_256 : decode prog_1_method_29_code 256 = .ok (.iaload, 1) := by decide +kernel
theorem d_x_convert_257 : decode prog_1_method_29_code 257 = .ok (.if_icmp .ne 13, 3) := by decide +kernel
theorem d_x_convert_260 : decode prog_1_method_29_code 260 = .ok (.iload 9, 2) := by decide +kernel
theorem d_x_convert_262 : decode prog_1_method_29_code 262 = .ok (.aload 5, 2) := by decide +kernel
theorem d_x_convert_264 : decode prog_1_method_29_code 264 = .ok (.iload 7, 2) := by decide +kernel
theorem d_x_convert_266 : decode prog_1_method_29_code 266 = .ok (.iaload, 1) := by decide +kernel
theorem d_x_convert_267 : decode prog_1_method_29_code 267 = .ok (.if_icmp .eq 23, 3) := by decide +kernel
theorem d_x_convert_270 : decode prog_1_method_29_code 270 = .ok (.aload_n 0, 1) := by decide +kernel
theorem d_x_convert_271 : decode prog_1_method_29_code 271 = .ok (.iload_n 1, 1) := by decide +kernel
theorem d_x_convert_272 : decode prog_1_method_29_code 272 = .ok (.bipush 13, 2) := by decide +kernel
theorem d_x_convert_274 : decode prog_1_method_29_code 274 = .ok (.aload_n 0, 1) := by decide +kernel
theorem d_x_convert_275 : decode prog_1_method_29_code 275 = .ok (.invokevirtual 199, 3) := by decide +kernel
theorem d_x_convert_278 : decode prog_1_method_29_code 278 = .ok (.iload 6, 2) := by decide +kernel
theorem d_x_convert_280 : decode prog_1_method_29_code 280 = .ok (.iload 8, 2) := by decide +kernel
theorem d_x_convert_282 : decode prog_1_method_29_code 282 = .ok (.iload 9, 2) := by decide +kernel
theorem d_x_convert_284 : decode prog_1_method_29_code 284 = .ok (.invokevirtual 202, 3) := by decide +kernel
theorem d_x_convert_287 : decode prog_1_method_29_code 287 = .ok (.goto 5, 3) := by decide +kernel
theorem d_x_convert_290 : decode prog_1_method_29_code 290 = .ok (.iload 8, 2) := by decide +kernel
theorem d_x_convert_292 : decode prog_1_method_29_code 292 = .ok (.iastore, 1) := by decide +kernel
theorem d_x_convert_293 : decode prog_1_method_29_code 293 = .ok (.iinc 7 1, 3) := by decide +kernel
theorem d_x_convert_296 : decode prog_1_method_29_code 296 = .ok (.goto (-88), 3) := by decide +kernel
theorem d_x_convert_299 : decode prog_1_method_29_code 299 = .ok (.iconst 0, 1) := by decide +kernel
theorem d_x_convert_300 : decode prog_1_method_29_code 300 = .ok (.istore 7, 2) := by decide +kernel
theorem d_x_convert_302 : decode prog_1_method_29_code 302 = .ok (.iload 7, 2) := by decide +kernel
theorem d_x_convert_304 : decode prog_1_method_29_code 304 = .ok (.bipush 16, 2) := by decide +kernel
theorem d_x_convert_306 : decode prog_1_method_29_code 306 = .ok (.if_icmp .ge 67, 3) := by decide +kernel
theorem d_x_convert_309 : decode prog_1_method_29_code 309 = .ok (.iload_n 3, 1) := by decide +kernel
theorem d_x_convert_310 : decode prog_1_method_29_code 310 = .ok (.ifCond .le 21, 3) := by decide +kernel
theorem d_x_convert_313 : decode prog_1_method_29_code 313 = .ok (.aload 5, 2) := by decide +kernel
theorem d_x_convert_315 : decode prog_1_method_29_code 315 = .ok (.iload 7, 2) := by decide +kernel
theorem d_x_convert_317 : decode prog_1_method_29_code 317 = .ok (.aload_n 0, 1) := by decide +kernel
theorem d_x_convert_318 : decode prog_1_method_29_code 318 = .ok (.getfield 220, 3) := by decide +kernel
theorem d_x_convert_321 : decode prog_1_method_29_code 321 = .ok (.iload 4, 2) := by decide +kernel
theorem d_x_convert_323 : decode prog_1_method_29_code 323 = .ok (.aaload, 1) := by decide +kernel
theorem d_x_convert_324 : decode prog_1_method_29_code 324 = .ok (.iload 7, 2) := by decide +kernel
theorem d_x_convert_326 : decode prog_1_method_29_code 326 = .ok (.iaload, 1) := by decide +kernel
theorem d_x_convert_327 : decode prog_1_method_29_code 327 = .ok (.iastore, 1) := by decide +kernel
theorem d_x_convert_328 : decode prog_1_method_29_code 328 = .ok (.goto 39, 3) := by decide +kernel
theorem d_x_convert_331 : decode prog_1_method_29_code 331 = .ok (.aload_n 0, 1) := by decide +kernel
theorem d_x_convert_332 : decode prog_1_method_29_code 332 = .ok (.getfield 220, 3) := by decide +kernel
theorem d_x_convert_335 : decode prog_1_method_29_code 335 = .ok (.iload 4, 2) := by decide +kernel
theorem d_x_convert_337 : decode prog_1_method_29_code 337 = .ok (.aaload, 1) := by decide +kernel
theorem d_x_convert_338 : decode prog_1_method_29_code 338 = .ok (.iload 7, 2) := by decide +kernel
theorem d_x_convert_340 : decode prog_1_method_29_code 340 = .ok (.iaload, 1) := by decide +kernel
theorem d_x_convert_341 : decode prog_1_method_29_code 341 = .ok (.iload 7, 2) := by decide +kernel
theorem d_x_convert_343 : decode prog_1_method_29_code 343 = .ok (.if_icmp .eq 24, 3) := by decide +kernel
theorem d_x_convert_346 : decode prog_1_method_29_code 346 = .ok (.aload_n 0, 1) := by decide +kernel
theorem d_x_convert_347 : decode prog_1_method_29_code 347 = .ok (.iload_n 1, 1) := by decide +kernel
theorem d_x_convert_348 : decode prog_1_method_29_code 348 = .ok (.iconst 1, 1) := by decide +kernel
theorem d_x_convert_349 : decode prog_1_method_29_code 349 = .ok (.iload 7, 2) := by decide +kernel
theorem d_x_convert_351 : decode prog_1_method_29_code 351 = .ok (.aload_n 0, 1) := by decide +kernel
theorem d_x_convert_352 : decode prog_1_method_29_code 352 = .ok (.getfield 220, 3) := by decide +kernel
theorem d_x_convert_355 : decode prog_1_method_29_code 355 = .ok (.iload 4, 2) := by decide +kernel
theorem d_x_convert_357 : decode prog_1_method_29_code 357 = .ok (.aaload, 1) := by decide +kernel
theorem d_x_convert_358 : decode prog_1_method_29_code 358 = .ok (.iload 7, 2) := by decide +kernel
theorem d_x_convert_360 : decode prog_1_method_29_code 360 = .ok (.iaload, 1) := by decide +kernel
theorem d_x_convert_361 : decode prog_1_method_29_code 361 = .ok (.iconst 0, 1) := by decide +kernel
theorem d_x_convert_362 : decode prog_1_method_29_code 362 = .ok (.iconst 0, 1) := by decide +kernel
theorem d_x_convert_363 : decode prog_1_method_29_code 363 = .ok (.invokevirtual 202, 3) := by decide +kernel
theorem d_x_convert_366 : decode prog_1_method_29_code 366 = .ok (.pop, 1) := by decide +kernel
theorem d_x_convert_367 : decode prog_1_method_29_code 367 = .ok (.iinc 7 1, 3) := by decide +kernel
theorem d_x_convert_370 : decode prog_1_method_29_code 370 = .ok (.goto (-68), 3) := by decide +kernel
theorem d_x_convert_373 : decode prog_1_method_29_code 373 = .ok (.return_, 1) := by decide +kernel
theorem kc_x_convert (d : Nat) : Kw (m_w (mi_x_convert d )) := ⟨(in_t3 (List.mem_of_getElem? (i := 146) rfl)), rfl⟩
theorem mv_x_convert (d : Nat) : MV (mi_x_convert d ) "GuardedMoves" 4 := ⟨kw_625, ks_25, kc_x_convert d , kw_1, ⟨⟨(by show ("GuardedMoves" : String) ≠ "java/lang/invoke/MethodHandle"; decide), (by show ("GuardedMoves" : String) ≠ "java/lang/invoke/VarHandle"; decide)⟩, (by show (parseMethodDescriptor "(IIII)V").map (fun d => d.parameters.length) = some 4; decide +kernel)⟩⟩
def w_x_guarded_323 (RA : Int32 → Int32 → Int32 → Int32 → Sg → (Sg → Prop) → Prop) (Q : Sg → Prop) (σ : Sg) : Prop := Q σ
theorem b_x_guarded_323 {Δ : Ly} {G : Gm} {d : Nat} {RA : Int32 → Int32 → Int32 → Int32 → Sg → (Sg → Prop) → Prop} {Q : Sg → Prop} (cx : Cx Δ G (mi_x_guarded d)) (hRA : ∀ (p1 : Int32) (p2 : Int32) (p3 : Int32) (p4 : Int32) (σ : Sg) (Q : Sg → Prop) , RA p1 p2 p3 p4 σ Q  → Ct (g_l G) Δ (mi_x_convert d) [.ref (Δ.1 0), .int p1, .int p2, .int p3, .int p4] σ (qV Q) noE) : ∀ (σ : Sg), w_x_guarded_323 RA Q σ → Y Δ G (mi_x_guarded d) (qV Q) noE 0 0 σ 323 [] [] := by
  intro σ h
  unfold w_x_guarded_323 at h
  exact y_vret cx (pc := 323) rfl d_x_guarded_323 (le_b rfl) (le_b rfl) h
def w_x_guarded_170 (RA : Int32 → Int32 → Int32 → Int32 → Sg → (Sg → Prop) → Prop) (Q : Sg → Prop) (v1 : Int32) (v5 : Nat) (v6 : Int32) (v7 : Int32) (v9 : Int32) (s0 : Int32) (σ : Sg) : Prop := w_x_fresh σ (fun x1 σ2 => w_x_put v1 v9 x1 v7 s0 0 σ2 (fun x3 σ4 => inS v5 ∧ (vp_in v6 16 ∧ (w_x_guarded_323 RA Q (up σ4 v5 (v6.toNatClampNeg) x3)))))
theorem b_x_guarded_170 {Δ : Ly} {G : Gm} {d : Nat} {RA : Int32 → Int32 → Int32 → Int32 → Sg → (Sg → Prop) → Prop} {Q : Sg → Prop} (cx : Cx Δ G (mi_x_guarded d)) (hRA : ∀ (p1 : Int32) (p2 : Int32) (p3 : Int32) (p4 : Int32) (σ : Sg) (Q : Sg → Prop) , RA p1 p2 p3 p4 σ Q  → Ct (g_l G) Δ (mi_x_convert d) [.ref (Δ.1 0), .int p1, .int p2, .int p3, .int p4] σ (qV Q) noE) : ∀ (v1 : Int32) (v5 : Nat) (v6 : Int32) (v7 : Int32) (v9 : Int32) (s0 : Int32) (σ : Sg), w_x_guarded_170 RA Q v1 v5 v6 v7 v9 s0 σ → Y Δ G (mi_x_guarded d) (qV Q) noE 0 0 σ 170 [(0, .ref (Δ.1 0)), (1, .int v1), (5, .ref (Δ.1 v5)), (6, .int v6), (7, .int v7), (9, .int v9)] [.int s0] := by
  intro v1 v5 v6 v7 v9 s0 σ h
  unfold w_x_guarded_170 at h
  refine y_istore (lv' := [(8, .int s0), (0, .ref (Δ.1 0)), (1, .int v1), (5, .ref (Δ.1 v5)), (6, .int v6), (7, .int v7), (9, .int v9)]) cx (pc := 170) d_x_guarded_170 (le_b rfl) rfl ?_
  refine y_aload cx (pc := 172) d_x_guarded_172 3 rfl ?_
  refine y_iload cx (pc := 174) d_x_guarded_174 4 rfl ?_
  refine y_aload_n cx (pc := 176) d_x_guarded_176 rfl 1 rfl ?_
  refine y_iload_n cx (pc := 177) d_x_guarded_177 rfl 2 rfl ?_
  refine y_iload cx (pc := 178) d_x_guarded_178 6 rfl ?_
  refine y_aload_n cx (pc := 180) d_x_guarded_180 rfl 1 rfl ?_
  refine y_vI cx (pc := 181) (st := [.int v9, .int v1, .ref (Δ.1 0), .int v6, .ref (Δ.1 v5)]) [] (c_x_fresh cx.fl Δ _ _ h) mv_x_fresh kw_643 (oc_0 Δ) ck_GM rfl (le_b rfl) (by show 0 + 1 ≤ 5 + 3 * d + 1; omega) (by show 12 + (1 + 11) + (0) ≤ 138 + 97 * d + 33; omega) (le_b rfl) (le_b rfl) d_x_guarded_181 (fun x1 σ2 h => ?_) (fun x σ2 h => yt_no h)
  refine y_iload cx (pc := 184) d_x_guarded_184 5 rfl ?_
  refine y_iload cx (pc := 186) d_x_guarded_186 0 rfl ?_
  refine y_iconst cx (pc := 188) ic_0 d_x_guarded_188 ?_
  refine y_vI cx (pc := 189) (st := [.int v6, .ref (Δ.1 v5)]) [.int v1, .int v9, .int x1, .int v7, .int s0, .int 0] (c_x_put cx.fl Δ v1 v9 x1 v7 s0 0 _ _ h) mv_x_put kw_647 (oc_0 Δ) ck_GM rfl (le_b rfl) (by show 0 + 1 ≤ 5 + 3 * d + 1; omega) (by show 12 + (7 + 11) + (0) ≤ 138 + 97 * d + 33; omega) (le_b rfl) (le_b rfl) d_x_guarded_189 (fun x3 σ4 h => ?_) (fun x σ4 h => yt_no h)
  obtain ⟨h9, h⟩ := h
  obtain ⟨h0, h⟩ := h
  refine y_iast cx (pc := 192) (av_inS h9) h0 d_x_guarded_192 ?_
  refine y_goto cx (pc := 193) (tgt := 323) d_x_guarded_193 (by decide) ?_
  refine y_sub [] rfl ?_
  exact b_x_guarded_323 cx hRA (up σ4 v5 (v6.toNatClampNeg) x3) h
def w_x_guarded_149 (RA : Int32 → Int32 → Int32 → Int32 → Sg → (Sg → Prop) → Prop) (Q : Sg → Prop) (v1 : Int32) (v2 : Int32) (v5 : Nat) (v6 : Int32) (v7 : Int32) (v8 : Int32) (v9 : Int32) (s0 : Int32) (σ : Sg) : Prop := (s0 = 0 → (w_x_guarded_170 RA Q v1 v5 v6 v7 v9 v8 σ)) ∧ (¬ s0 = 0 → (w_x_harmless v1 v2 v8 1 σ (fun x1 σ2 => w_x_guarded_170 RA Q v1 v5 v6 v7 v9 x1 σ2)))
theorem b_x_guarded_149 {Δ : Ly} {G : Gm} {d : Nat} {RA : Int32 → Int32 → Int32 → Int32 → Sg → (Sg → Prop) → Prop} {Q : Sg → Prop} (cx : Cx Δ G (mi_x_guarded d)) (hRA : ∀ (p1 : Int32) (p2 : Int32) (p3 : Int32) (p4 : Int32) (σ : Sg) (Q : Sg → Prop) , RA p1 p2 p3 p4 σ Q  → Ct (g_l G) Δ (mi_x_convert d) [.ref (Δ.1 0), .int p1, .int p2, .int p3, .int p4] σ (qV Q) noE) : ∀ (v1 : Int32) (v2 : Int32) (v5 : Nat) (v6 : Int32) (v7 : Int32) (v8 : Int32) (v9 : Int32) (s0 : Int32) (σ : Sg), w_x_guarded_149 RA Q v1 v2 v5 v6 v7 v8 v9 s0 σ → Y Δ G (mi_x_guarded d) (qV Q) noE 0 0 σ 149 [(0, .ref (Δ.1 0)), (1, .int v1), (2, .int v2), (5, .ref (Δ.1 v5)), (6, .int v6), (7, .int v7), (8, .int v8), (9, .int v9)] [.int s0] := by
  intro v1 v2 v5 v6 v7 v8 v9 s0 σ h
  unfold w_x_guarded_149 at h
  refine y_istore (lv' := [(10, .int s0), (0, .ref (Δ.1 0)), (1, .int v1), (2, .int v2), (5, .ref (Δ.1 v5)), (6, .int v6), (7, .int v7), (8, .int v8), (9, .int v9)]) cx (pc := 149) d_x_guarded_149 (le_b rfl) rfl ?_
  refine y_iload cx (pc := 151) d_x_guarded_151 0 rfl ?_
  refine y_if_eq cx (pc := 153) (tgt := 168) d_x_guarded_153 (by decide) (fun hc => ?_) (fun hc => ?_)
  · replace h := h.1 hc
    refine y_iload cx (pc := 168) d_x_guarded_168 7 rfl ?_
    refine y_sub [1, 2, 4, 5, 6, 8] rfl ?_
    exact b_x_guarded_170 cx hRA v1 v5 v6 v7 v9 v8 σ h
  · replace h := h.2 hc
    refine y_aload_n cx (pc := 156) d_x_guarded_156 rfl 1 rfl ?_
    refine y_iload_n cx (pc := 157) d_x_guarded_157 rfl 2 rfl ?_
    refine y_iload_n cx (pc := 158) d_x_guarded_158 rfl 3 rfl ?_
    refine y_iload cx (pc := 159) d_x_guarded_159 7 rfl ?_
    refine y_iconst cx (pc := 161) ic_1 d_x_guarded_161 ?_
    refine y_vI cx (pc := 162) (st := []) [.int v1, .int v2, .int v8, .int 1] (c_x_harmless cx.fl Δ v1 v2 v8 1 _ _ h) mv_x_harmless kw_667 (oc_0 Δ) ck_GM rfl (le_b rfl) (by show 2 + 1 ≤ 5 + 3 * d + 1; omega) (by show 12 + (6 + 11) + (56) ≤ 138 + 97 * d + 33; omega) (le_b rfl) (le_b rfl) d_x_guarded_162 (fun x1 σ2 h => ?_) (fun x σ2 h => yt_no h)
    refine y_goto cx (pc := 165) (tgt := 170) d_x_guarded_165 (by decide) ?_
    refine y_sub [1, 2, 4, 5, 6, 8] rfl ?_
    exact b_x_guarded_170 cx hRA v1 v5 v6 v7 v9 x1 σ2 h
def w_x_guarded_148 (RA : Int32 → Int32 → Int32 → Int32 → Sg → (Sg → Prop) → Prop) (Q : Sg → Prop) (v1 : Int32) (v2 : Int32) (v5 : Nat) (v6 : Int32) (v7 : Int32) (v8 : Int32) (v9 : Int32) (σ : Sg) : Prop := w_x_guarded_149 RA Q v1 v2 v5 v6 v7 v8 v9 0 σ
theorem b_x_guarded_148 {Δ : Ly} {G : Gm} {d : Nat} {RA : Int32 → Int32 → Int32 → Int32 → Sg → (Sg → Prop) → Prop} {Q : Sg → Prop} (cx : Cx Δ G (mi_x_guarded d)) (hRA : ∀ (p1 : Int32) (p2 : Int32) (p3 : Int32) (p4 : Int32) (σ : Sg) (Q : Sg → Prop) , RA p1 p2 p3 p4 σ Q  → Ct (g_l G) Δ (mi_x_convert d) [.ref (Δ.1 0), .int p1, .int p2, .int p3, .int p4] σ (qV Q) noE) : ∀ (v1 : Int32) (v2 : Int32) (v5 : Nat) (v6 : Int32) (v7 : Int32) (v8 : Int32) (v9 : Int32) (σ : Sg), w_x_guarded_148 RA Q v1 v2 v5 v6 v7 v8 v9 σ → Y Δ G (mi_x_guarded d) (qV Q) noE 0 0 σ 148 [(0, .ref (Δ.1 0)), (1, .int v1), (2, .int v2), (5, .ref (Δ.1 v5)), (6, .int v6), (7, .int v7), (8, .int v8), (9, .int v9)] [] := by
  intro v1 v2 v5 v6 v7 v8 v9 σ h
  unfold w_x_guarded_148 at h
  refine y_iconst cx (pc := 148) ic_0 d_x_guarded_148 ?_
  exact b_x_guarded_149 cx hRA v1 v2 v5 v6 v7 v8 v9 0 σ h
def w_x_guarded_144 (RA : Int32 → Int32 → Int32 → Int32 → Sg → (Sg → Prop) → Prop) (Q : Sg → Prop) (v1 : Int32) (v2 : Int32) (v5 : Nat) (v6 : Int32) (v7 : Int32) (v8 : Int32) (v9 : Int32) (σ : Sg) : Prop := w_x_guarded_149 RA Q v1 v2 v5 v6 v7 v8 v9 1 σ
theorem b_x_guarded_144 {Δ : Ly} {G : Gm} {d : Nat} {RA : Int32 → Int32 → Int32 → Int32 → Sg → (Sg → Prop) → Prop} {Q : Sg → Prop} (cx : Cx Δ G (mi_x_guarded d)) (hRA : ∀ (p1 : Int32) (p2 : Int32) (p3 : Int32) (p4 : Int32) (σ : Sg) (Q : Sg → Prop) , RA p1 p2 p3 p4 σ Q  → Ct (g_l G) Δ (mi_x_convert d) [.ref (Δ.1 0), .int p1, .int p2, .int p3, .int p4] σ (qV Q) noE) : ∀ (v1 : Int32) (v2 : Int32) (v5 : Nat) (v6 : Int32) (v7 : Int32) (v8 : Int32) (v9 : Int32) (σ : Sg), w_x_guarded_144 RA Q v1 v2 v5 v6 v7 v8 v9 σ → Y Δ G (mi_x_guarded d) (qV Q) noE 0 0 σ 144 [(0, .ref (Δ.1 0)), (1, .int v1), (2, .int v2), (5, .ref (Δ.1 v5)), (6, .int v6), (7, .int v7), (8, .int v8), (9, .int v9)] [] := by
  intro v1 v2 v5 v6 v7 v8 v9 σ h
  unfold w_x_guarded_144 at h
  refine y_iconst cx (pc := 144) ic_1 d_x_guarded_144 ?_
  refine y_goto cx (pc := 145) (tgt := 149) d_x_guarded_145 (by decide) ?_
  exact b_x_guarded_149 cx hRA v1 v2 v5 v6 v7 v8 v9 1 σ h
def w_x_guarded_119 (RA : Int32 → Int32 → Int32 → Int32 → Sg → (Sg → Prop) → Prop) (Q : Sg → Prop) (v1 : Int32) (v2 : Int32) (v5 : Nat) (v6 : Int32) (v7 : Int32) (v8 : Int32) (v9 : Int32) (σ : Sg) : Prop := vp_in v1 60 ∧ ((¬ (σ 42 (v1.toNatClampNeg)) = (-1) → (w_x_guarded_144 RA Q v1 v2 v5 v6 v7 v8 v9 σ)) ∧ ((σ 42 (v1.toNatClampNeg)) = (-1) → (vp_in v1 60 ∧ ((¬ (σ 43 (v1.toNatClampNeg)) = 0 → (w_x_guarded_148 RA Q v1 v2 v5 v6 v7 v8 v9 σ)) ∧ ((σ 43 (v1.toNatClampNeg)) = 0 → (w_x_guarded_144 RA Q v1 v2 v5 v6 v7 v8 v9 σ))))))
theorem b_x_guarded_119 {Δ : Ly} {G : Gm} {d : Nat} {RA : Int32 → Int32 → Int32 → Int32 → Sg → (Sg → Prop) → Prop} {Q : Sg → Prop} (cx : Cx Δ G (mi_x_guarded d)) (hRA : ∀ (p1 : Int32) (p2 : Int32) (p3 : Int32) (p4 : Int32) (σ : Sg) (Q : Sg → Prop) , RA p1 p2 p3 p4 σ Q  → Ct (g_l G) Δ (mi_x_convert d) [.ref (Δ.1 0), .int p1, .int p2, .int p3, .int p4] σ (qV Q) noE) : ∀ (v1 : Int32) (v2 : Int32) (v5 : Nat) (v6 : Int32) (v7 : Int32) (v8 : Int32) (v9 : Int32) (σ : Sg), w_x_guarded_119 RA Q v1 v2 v5 v6 v7 v8 v9 σ → Y Δ G (mi_x_guarded d) (qV Q) noE 0 0 σ 119 [(0, .ref (Δ.1 0)), (1, .int v1), (2, .int v2), (5, .ref (Δ.1 v5)), (6, .int v6), (7, .int v7), (8, .int v8), (9, .int v9)] [] := by
  intro v1 v2 v5 v6 v7 v8 v9 σ h
  unfold w_x_guarded_119 at h
  refine y_aload_n cx (pc := 119) d_x_guarded_119 rfl 0 rfl ?_
  refine y_get cx (pc := 120) (j := 0) (v := .ref (Δ.1 1)) (le_b rfl) ck_GM kw_397 (le_b rfl) (gf_0_0 Δ _) d_x_guarded_120 ?_
  refine y_getN cx (pc := 123) (j := 7) (v := .ref (Δ.1 42)) (le_b rfl) ck_Tx kw_270 (le_b rfl) (gf_1_7 Δ _) d_x_guarded_123 ?_
  refine y_iload_n cx (pc := 126) d_x_guarded_126 rfl 1 rfl ?_
  obtain ⟨h0, h⟩ := h
  refine y_iald cx (pc := 127) ⟨(le_b rfl), fun _ => rfl⟩ h0 d_x_guarded_127 ?_
  refine y_iconst cx (pc := 128) ic_m1 d_x_guarded_128 ?_
  refine y_icmp_ne cx (pc := 129) (tgt := 144) d_x_guarded_129 (by decide) (fun hc => ?_) (fun hc => ?_)
  · replace h := h.1 hc
    exact b_x_guarded_144 cx hRA v1 v2 v5 v6 v7 v8 v9 σ h
  · replace h := h.2 hc
    refine y_aload_n cx (pc := 132) d_x_guarded_132 rfl 0 rfl ?_
    refine y_get cx (pc := 133) (j := 0) (v := .ref (Δ.1 1)) (le_b rfl) ck_GM kw_397 (le_b rfl) (gf_0_0 Δ _) d_x_guarded_133 ?_
    refine y_getN cx (pc := 136) (j := 8) (v := .ref (Δ.1 43)) (le_b rfl) ck_Tx kw_272 (le_b rfl) (gf_1_8 Δ _) d_x_guarded_136 ?_
    refine y_iload_n cx (pc := 139) d_x_guarded_139 rfl 1 rfl ?_
    obtain ⟨h0, h⟩ := h
    refine y_iald cx (pc := 140) ⟨(le_b rfl), fun _ => rfl⟩ h0 d_x_guarded_140 ?_
    refine y_if_ne cx (pc := 141) (tgt := 148) d_x_guarded_141 (by decide) (fun hc => ?_) (fun hc => ?_)
    · replace h := h.1 hc
      exact b_x_guarded_148 cx hRA v1 v2 v5 v6 v7 v8 v9 σ h
    · replace h := h.2 hc
      exact b_x_guarded_144 cx hRA v1 v2 v5 v6 v7 v8 v9 σ h
def w_x_guarded (RA : Int32 → Int32 → Int32 → Int32 → Sg → (Sg → Prop) → Prop) (p1 : Int32) (p2 : Int32) (p3 : Int32) (p4 : Int32) (σ : Sg) (Q : Sg → Prop) : Prop := vp_in p3 16 ∧ (vp_in p1 60 ∧ (∀ x1 : Int32, x1 = σ 38 (p1.toNatClampNeg) → (vp_in p1 60 ∧ (((σ 36 (p1.toNatClampNeg)) = 0 → (w_x_first_IAI p1 (18 + p3.toNatClampNeg) σ (fun x2 σ3 => inS (18 + p3.toNatClampNeg) ∧ (vp_in x1 16 ∧ (w_x_guarded_323 RA Q (up σ3 (18 + p3.toNatClampNeg) (x1.toNatClampNeg) x2)))))) ∧ (¬ (σ 36 (p1.toNatClampNeg)) = 0 → (((σ 36 (p1.toNatClampNeg)) = 1 → (w_x_first_IAI p1 (18 + p3.toNatClampNeg) σ (fun x4 σ5 => w_x_second_IAI p1 (18 + p3.toNatClampNeg) σ5 (fun x6 σ7 => vp_in p1 60 ∧ (∀ x8 : Int32, x8 = 2 + (σ7 39 (p1.toNatClampNeg)) → ((x8 = 5 → (w_x_guarded_119 RA Q p1 p2 (18 + p3.toNatClampNeg) x1 x4 x6 x8 σ7)) ∧ (¬ x8 = 5 → ((¬ x8 = 6 → (w_x_guarded_148 RA Q p1 p2 (18 + p3.toNatClampNeg) x1 x4 x6 x8 σ7)) ∧ (x8 = 6 → (w_x_guarded_119 RA Q p1 p2 (18 + p3.toNatClampNeg) x1 x4 x6 x8 σ7)))))))))) ∧ (¬ (σ 36 (p1.toNatClampNeg)) = 1 → (((σ 36 (p1.toNatClampNeg)) = 2 → (w_x_first_IAI p1 (18 + p3.toNatClampNeg) σ (fun x9 σ10 => w_x_index p1 p2 x9 σ10 (fun x11 σ12 => w_x_fresh σ12 (fun x13 σ14 => w_x_put p1 14 x13 x11 0 0 σ14 (fun x15 σ16 => inS (18 + p3.toNatClampNeg) ∧ (vp_in x1 16 ∧ (w_x_guarded_323 RA Q (up σ16 (18 + p3.toNatClampNeg) (x1.toNatClampNeg) x15))))))))) ∧ (¬ (σ 36 (p1.toNatClampNeg)) = 2 → (((σ 36 (p1.toNatClampNeg)) = 3 → (w_x_first_IAI p1 (18 + p3.toNatClampNeg) σ (fun x17 σ18 => w_x_second_IAI p1 (18 + p3.toNatClampNeg) σ18 (fun x19 σ20 => w_x_index p1 p2 x17 σ20 (fun x21 σ22 => w_x_fresh σ22 (fun x23 σ24 => w_x_put p1 14 x23 x21 0 0 σ24 (fun x25 σ26 => w_x_fresh σ26 (fun x27 σ28 => w_x_put p1 13 x27 p2 x19 x25 σ28 (fun x29 σ30 => w_x_put p1 15 x21 x29 0 0 σ30 (fun x31 σ32 => w_x_guarded_323 RA Q σ32)))))))))) ∧ (¬ (σ 36 (p1.toNatClampNeg)) = 3 → (RA p1 p2 p3 p4 σ (fun σ33 => w_x_guarded_323 RA Q σ33)))))))))))))
theorem b_x_guarded {Δ : Ly} {G : Gm} {d : Nat} {RA : Int32 → Int32 → Int32 → Int32 → Sg → (Sg → Prop) → Prop} {Q : Sg → Prop} (cx : Cx Δ G (mi_x_guarded d)) (hRA : ∀ (p1 : Int32) (p2 : Int32) (p3 : Int32) (p4 : Int32) (σ : Sg) (Q : Sg → Prop) , RA p1 p2 p3 p4 σ Q  → Ct (g_l G) Δ (mi_x_convert d) [.ref (Δ.1 0), .int p1, .int p2, .int p3, .int p4] σ (qV Q) noE) (p1 : Int32) (p2 : Int32) (p3 : Int32) (p4 : Int32) (σ : Sg) (h : w_x_guarded RA p1 p2 p3 p4 σ Q) : Y Δ G (mi_x_guarded d) (qV Q) noE 0 0 σ 0 [(0, .ref (Δ.1 0)), (1, .int p1), (2, .int p2), (3, .int p3), (4, .int p4)] [] := by
  unfold w_x_guarded at h
  refine y_aload_n cx (pc := 0) d_x_guarded_0 rfl 0 rfl ?_
  refine y_get cx (pc := 1) (j := 16) (v := .ref (Δ.1 35)) (le_b rfl) ck_GM kw_413 (le_b rfl) (gf_0_16 Δ _) d_x_guarded_1 ?_
  refine y_iload_n cx (pc := 4) d_x_guarded_4 rfl 3 rfl ?_
  obtain ⟨h0, h⟩ := h
  refine y_aald cx (pc := 5) (base := 18) ⟨(le_b rfl), fun _ => rfl⟩ h0 d_x_guarded_5 ?_
  refine y_astore (lv' := [(5, .ref (Δ.1 (18 + p3.toNatClampNeg))), (0, .ref (Δ.1 0)), (1, .int p1), (2, .int p2), (3, .int p3), (4, .int p4)]) cx (pc := 6) d_x_guarded_6 (le_b rfl) rfl ?_
  refine y_aload_n cx (pc := 8) d_x_guarded_8 rfl 1 rfl ?_
  refine y_get cx (pc := 9) (j := 0) (v := .ref (Δ.1 1)) (le_b rfl) ck_GM kw_397 (le_b rfl) (gf_0_0 Δ _) d_x_guarded_9 ?_
  refine y_getN cx (pc := 12) (j := 3) (v := .ref (Δ.1 38)) (le_b rfl) ck_Tx kw_262 (le_b rfl) (gf_1_3 Δ _) d_x_guarded_12 ?_
  refine y_iload_n cx (pc := 15) d_x_guarded_15 rfl 2 rfl ?_
  obtain ⟨h0, h⟩ := h
  refine y_iald cx (pc := 16) ⟨(le_b rfl), fun _ => rfl⟩ h0 d_x_guarded_16 ?_
  refine y_topi (fun x1 ex1 => ?_)
  replace h := h x1 ex1
  refine y_istore (lv' := [(6, .int x1), (5, .ref (Δ.1 (18 + p3.toNatClampNeg))), (0, .ref (Δ.1 0)), (1, .int p1), (2, .int p2), (3, .int p3), (4, .int p4)]) cx (pc := 17) d_x_guarded_17 (le_b rfl) rfl ?_
  refine y_aload_n cx (pc := 19) d_x_guarded_19 rfl 2 rfl ?_
  refine y_get cx (pc := 20) (j := 0) (v := .ref (Δ.1 1)) (le_b rfl) ck_GM kw_397 (le_b rfl) (gf_0_0 Δ _) d_x_guarded_20 ?_
  refine y_getN cx (pc := 23) (j := 1) (v := .ref (Δ.1 36)) (le_b rfl) ck_Tx kw_258 (le_b rfl) (gf_1_1 Δ _) d_x_guarded_23 ?_
  refine y_iload_n cx (pc := 26) d_x_guarded_26 rfl 3 rfl ?_
  obtain ⟨h0, h⟩ := h
  refine y_iald cx (pc := 27) ⟨(le_b rfl), fun _ => rfl⟩ h0 d_x_guarded_27 ?_
  by_cases hc0 : (σ 36 (p1.toNatClampNeg)) = 0
  · replace h := h.1 hc0
    refine y_tIn cx (pc := 28) (tgt := 60) (c := 0) d_x_guarded_28 hc0 (by decide) (by decide) rfl (by decide) ?_
    refine y_aload cx (pc := 60) d_x_guarded_60 1 rfl ?_
    refine y_iload cx (pc := 62) d_x_guarded_62 0 rfl ?_
    refine y_aload_n cx (pc := 64) d_x_guarded_64 rfl 2 rfl ?_
    refine y_iload_n cx (pc := 65) d_x_guarded_65 rfl 3 rfl ?_
    refine y_aload cx (pc := 66) d_x_guarded_66 1 rfl ?_
    refine y_vI cx (pc := 68) (st := [.int x1, .ref (Δ.1 (18 + p3.toNatClampNeg))]) [.int p1, .ref (Δ.1 (18 + p3.toNatClampNeg))] (c_x_first_IAI cx.fl Δ p1 (18 + p3.toNatClampNeg) _ _ h) mv_x_first_IAI kw_631 (oc_0 Δ) ck_GM rfl (le_b rfl) (by show 3 + 1 ≤ 5 + 3 * d + 1; omega) (by show 12 + (3 + 11) + (84) ≤ 138 + 97 * d + 33; omega) (le_b rfl) (le_b rfl) d_x_guarded_68 (fun x2 σ3 h => ?_) (fun x σ3 h => yt_no h)
    obtain ⟨h9, h⟩ := h
    obtain ⟨h0, h⟩ := h
    refine y_iast cx (pc := 71) (av_inS h9) h0 d_x_guarded_71 ?_
    refine y_goto cx (pc := 72) (tgt := 323) d_x_guarded_72 (by decide) ?_
    refine y_sub [] rfl ?_
    exact b_x_guarded_323 cx hRA (up σ3 (18 + p3.toNatClampNeg) (x1.toNatClampNeg) x2) h
  replace h := h.2 hc0
  by_cases hc1 : (σ 36 (p1.toNatClampNeg)) = 1
  · replace h := h.1 hc1
    refine y_tIn cx (pc := 28) (tgt := 75) (c := 1) d_x_guarded_28 hc1 (by decide) (by decide) rfl (by decide) ?_
    refine y_aload_n cx (pc := 75) d_x_guarded_75 rfl 2 rfl ?_
    refine y_iload_n cx (pc := 76) d_x_guarded_76 rfl 3 rfl ?_
    refine y_aload cx (pc := 77) d_x_guarded_77 1 rfl ?_
    refine y_vI cx (pc := 79) (st := []) [.int p1, .ref (Δ.1 (18 + p3.toNatClampNeg))] (c_x_first_IAI cx.fl Δ p1 (18 + p3.toNatClampNeg) _ _ h) mv_x_first_IAI kw_631 (oc_0 Δ) ck_GM rfl (le_b rfl) (by show 3 + 1 ≤ 5 + 3 * d + 1; omega) (by show 12 + (3 + 11) + (84) ≤ 138 + 97 * d + 33; omega) (le_b rfl) (le_b rfl) d_x_guarded_79 (fun x4 σ5 h => ?_) (fun x σ5 h => yt_no h)
    refine y_istore (lv' := [(7, .int x4), (6, .int x1), (5, .ref (Δ.1 (18 + p3.toNatClampNeg))), (0, .ref (Δ.1 0)), (1, .int p1), (2, .int p2), (3, .int p3), (4, .int p4)]) cx (pc := 82) d_x_guarded_82 (le_b rfl) rfl ?_
    refine y_aload_n cx (pc := 84) d_x_guarded_84 rfl 3 rfl ?_
    refine y_iload_n cx (pc := 85) d_x_guarded_85 rfl 4 rfl ?_
    refine y_aload cx (pc := 86) d_x_guarded_86 2 rfl ?_
    refine y_vI cx (pc := 88) (st := []) [.int p1, .ref (Δ.1 (18 + p3.toNatClampNeg))] (c_x_second_IAI cx.fl Δ p1 (18 + p3.toNatClampNeg) _ _ h) mv_x_second_IAI kw_651 (oc_0 Δ) ck_GM rfl (le_b rfl) (by show 3 + 1 ≤ 5 + 3 * d + 1; omega) (by show 12 + (3 + 11) + (84) ≤ 138 + 97 * d + 33; omega) (le_b rfl) (le_b rfl) d_x_guarded_88 (fun x6 σ7 h => ?_) (fun x σ7 h => yt_no h)
    refine y_istore (lv' := [(8, .int x6), (7, .int x4), (6, .int x1), (5, .ref (Δ.1 (18 + p3.toNatClampNeg))), (0, .ref (Δ.1 0)), (1, .int p1), (2, .int p2), (3, .int p3), (4, .int p4)]) cx (pc := 91) d_x_guarded_91 (le_b rfl) rfl ?_
    refine y_iconst cx (pc := 93) ic_2 d_x_guarded_93 ?_
    refine y_aload_n cx (pc := 94) d_x_guarded_94 rfl 4 rfl ?_
    refine y_get cx (pc := 95) (j := 0) (v := .ref (Δ.1 1)) (le_b rfl) ck_GM kw_397 (le_b rfl) (gf_0_0 Δ _) d_x_guarded_95 ?_
    refine y_getN cx (pc := 98) (j := 4) (v := .ref (Δ.1 39)) (le_b rfl) ck_Tx kw_264 (le_b rfl) (gf_1_4 Δ _) d_x_guarded_98 ?_
    refine y_iload_n cx (pc := 101) d_x_guarded_101 rfl 5 rfl ?_
    obtain ⟨h0, h⟩ := h
    refine y_iald cx (pc := 102) ⟨(le_b rfl), fun _ => rfl⟩ h0 d_x_guarded_102 ?_
    refine y_iadd cx (pc := 103) d_x_guarded_103 ?_
    refine y_topi (fun x8 ex8 => ?_)
    replace h := h x8 ex8
    refine y_istore (lv' := [(9, .int x8), (8, .int x6), (7, .int x4), (6, .int x1), (5, .ref (Δ.1 (18 + p3.toNatClampNeg))), (0, .ref (Δ.1 0)), (1, .int p1), (2, .int p2), (3, .int p3), (4, .int p4)]) cx (pc := 104) d_x_guarded_104 (le_b rfl) rfl ?_
    refine y_iload cx (pc := 106) d_x_guarded_106 0 rfl ?_
    refine y_iconst cx (pc := 108) ic_5 d_x_guarded_108 ?_
    refine y_icmp_eq cx (pc := 109) (tgt := 119) d_x_guarded_109 (by decide) (fun hc => ?_) (fun hc => ?_)
    · replace h := h.1 hc
      refine y_sub [5, 6, 7, 4, 3, 2, 1, 0] rfl ?_
      exact b_x_guarded_119 cx hRA p1 p2 (18 + p3.toNatClampNeg) x1 x4 x6 x8 σ7 h
    · replace h := h.2 hc
      refine y_iload cx (pc := 112) d_x_guarded_112 0 rfl ?_
      refine y_bipush cx (pc := 114) bp_6 d_x_guarded_114 ?_
      refine y_icmp_ne cx (pc := 116) (tgt := 148) d_x_guarded_116 (by decide) (fun hc => ?_) (fun hc => ?_)
      · replace h := h.1 hc
        refine y_sub [5, 6, 7, 4, 3, 2, 1, 0] rfl ?_
        exact b_x_guarded_148 cx hRA p1 p2 (18 + p3.toNatClampNeg) x1 x4 x6 x8 σ7 h
      · replace h := h.2 hc
        refine y_sub [5, 6, 7, 4, 3, 2, 1, 0] rfl ?_
        exact b_x_guarded_119 cx hRA p1 p2 (18 + p3.toNatClampNeg) x1 x4 x6 x8 σ7 h
  replace h := h.2 hc1
  by_cases hc2 : (σ 36 (p1.toNatClampNeg)) = 2
  · replace h := h.1 hc2
    refine y_tIn cx (pc := 28) (tgt := 196) (c := 2) d_x_guarded_28 hc2 (by decide) (by decide) rfl (by decide) ?_
    refine y_aload_n cx (pc := 196) d_x_guarded_196 rfl 2 rfl ?_
    refine y_iload_n cx (pc := 197) d_x_guarded_197 rfl 3 rfl ?_
    refine y_iload_n cx (pc := 198) d_x_guarded_198 rfl 4 rfl ?_
    refine y_aload_n cx (pc := 199) d_x_guarded_199 rfl 2 rfl ?_
    refine y_iload_n cx (pc := 200) d_x_guarded_200 rfl 3 rfl ?_
    refine y_aload cx (pc := 201) d_x_guarded_201 1 rfl ?_
    refine y_vI cx (pc := 203) (st := [.int p2, .int p1, .ref (Δ.1 0)]) [.int p1, .ref (Δ.1 (18 + p3.toNatClampNeg))] (c_x_first_IAI cx.fl Δ p1 (18 + p3.toNatClampNeg) _ _ h) mv_x_first_IAI kw_631 (oc_0 Δ) ck_GM rfl (le_b rfl) (by show 3 + 1 ≤ 5 + 3 * d + 1; omega) (by show 12 + (3 + 11) + (84) ≤ 138 + 97 * d + 33; omega) (le_b rfl) (le_b rfl) d_x_guarded_203 (fun x9 σ10 h => ?_) (fun x σ10 h => yt_no h)
    refine y_vI cx (pc := 206) (st := []) [.int p1, .int p2, .int x9] (c_x_index cx.fl Δ p1 p2 x9 _ _ h) mv_x_index kw_671 (oc_0 Δ) ck_GM rfl (le_b rfl) (by show 3 + 1 ≤ 5 + 3 * d + 1; omega) (by show 12 + (4 + 11) + (85) ≤ 138 + 97 * d + 33; omega) (le_b rfl) (le_b rfl) d_x_guarded_206 (fun x11 σ12 h => ?_) (fun x σ12 h => yt_no h)
    refine y_istore (lv' := [(7, .int x11), (6, .int x1), (5, .ref (Δ.1 (18 + p3.toNatClampNeg))), (0, .ref (Δ.1 0)), (1, .int p1), (2, .int p2), (3, .int p3), (4, .int p4)]) cx (pc := 209) d_x_guarded_209 (le_b rfl) rfl ?_
    refine y_aload cx (pc := 211) d_x_guarded_211 2 rfl ?_
    refine y_iload cx (pc := 213) d_x_guarded_213 1 rfl ?_
    refine y_aload_n cx (pc := 215) d_x_guarded_215 rfl 3 rfl ?_
    refine y_iload_n cx (pc := 216) d_x_guarded_216 rfl 4 rfl ?_
    refine y_bipush cx (pc := 217) bp_14 d_x_guarded_217 ?_
    refine y_aload_n cx (pc := 219) d_x_guarded_219 rfl 3 rfl ?_
    refine y_vI cx (pc := 220) (st := [.int 14, .int p1, .ref (Δ.1 0), .int x1, .ref (Δ.1 (18 + p3.toNatClampNeg))]) [] (c_x_fresh cx.fl Δ _ _ h) mv_x_fresh kw_643 (oc_0 Δ) ck_GM rfl (le_b rfl) (by show 0 + 1 ≤ 5 + 3 * d + 1; omega) (by show 12 + (1 + 11) + (0) ≤ 138 + 97 * d + 33; omega) (le_b rfl) (le_b rfl) d_x_guarded_220 (fun x13 σ14 h => ?_) (fun x σ14 h => yt_no h)
    refine y_iload cx (pc := 223) d_x_guarded_223 0 rfl ?_
    refine y_iconst cx (pc := 225) ic_0 d_x_guarded_225 ?_
    refine y_iconst cx (pc := 226) ic_0 d_x_guarded_226 ?_
    refine y_vI cx (pc := 227) (st := [.int x1, .ref (Δ.1 (18 + p3.toNatClampNeg))]) [.int p1, .int 14, .int x13, .int x11, .int 0, .int 0] (c_x_put cx.fl Δ p1 14 x13 x11 0 0 _ _ h) mv_x_put kw_647 (oc_0 Δ) ck_GM rfl (le_b rfl) (by show 0 + 1 ≤ 5 + 3 * d + 1; omega) (by show 12 + (7 + 11) + (0) ≤ 138 + 97 * d + 33; omega) (le_b rfl) (le_b rfl) d_x_guarded_227 (fun x15 σ16 h => ?_) (fun x σ16 h => yt_no h)
    obtain ⟨h9, h⟩ := h
    obtain ⟨h0, h⟩ := h
    refine y_iast cx (pc := 230) (av_inS h9) h0 d_x_guarded_230 ?_
    refine y_goto cx (pc := 231) (tgt := 323) d_x_guarded_231 (by decide) ?_
    refine y_sub [] rfl ?_
    exact b_x_guarded_323 cx hRA (up σ16 (18 + p3.toNatClampNeg) (x1.toNatClampNeg) x15) h
  replace h := h.2 hc2
  by_cases hc3 : (σ 36 (p1.toNatClampNeg)) = 3
  · replace h := h.1 hc3
    refine y_tIn cx (pc := 28) (tgt := 234) (c := 3) d_x_guarded_28 hc3 (by decide) (by decide) rfl (by decide) ?_
    refine y_aload_n cx (pc := 234) d_x_guarded_234 rfl 2 rfl ?_
    refine y_iload_n cx (pc := 235) d_x_guarded_235 rfl 3 rfl ?_
    refine y_aload cx (pc := 236) d_x_guarded_236 1 rfl ?_
    refine y_vI cx (pc := 238) (st := []) [.int p1, .ref (Δ.1 (18 + p3.toNatClampNeg))] (c_x_first_IAI cx.fl Δ p1 (18 + p3.toNatClampNeg) _ _ h) mv_x_first_IAI kw_631 (oc_0 Δ) ck_GM rfl (le_b rfl) (by show 3 + 1 ≤ 5 + 3 * d + 1; omega) (by show 12 + (3 + 11) + (84) ≤ 138 + 97 * d + 33; omega) (le_b rfl) (le_b rfl) d_x_guarded_238 (fun x17 σ18 h => ?_) (fun x σ18 h => yt_no h)
    refine y_istore (lv' := [(7, .int x17), (6, .int x1), (5, .ref (Δ.1 (18 + p3.toNatClampNeg))), (0, .ref (Δ.1 0)), (1, .int p1), (2, .int p2), (3, .int p3), (4, .int p4)]) cx (pc := 241) d_x_guarded_241 (le_b rfl) rfl ?_
    refine y_aload_n cx (pc := 243) d_x_guarded_243 rfl 3 rfl ?_
    refine y_iload_n cx (pc := 244) d_x_guarded_244 rfl 4 rfl ?_
    refine y_aload cx (pc := 245) d_x_guarded_245 2 rfl ?_
    refine y_vI cx (pc := 247) (st := []) [.int p1, .ref (Δ.1 (18 + p3.toNatClampNeg))] (c_x_second_IAI cx.fl Δ p1 (18 + p3.toNatClampNeg) _ _ h) mv_x_second_IAI kw_651 (oc_0 Δ) ck_GM rfl (le_b rfl) (by show 3 + 1 ≤ 5 + 3 * d + 1; omega) (by show 12 + (3 + 11) + (84) ≤ 138 + 97 * d + 33; omega) (le_b rfl) (le_b rfl) d_x_guarded_247 (fun x19 σ20 h => ?_) (fun x σ20 h => yt_no h)
    refine y_istore (lv' := [(8, .int x19), (7, .int x17), (6, .int x1), (5, .ref (Δ.1 (18 + p3.toNatClampNeg))), (0, .ref (Δ.1 0)), (1, .int p1), (2, .int p2), (3, .int p3), (4, .int p4)]) cx (pc := 250) d_x_guarded_250 (le_b rfl) rfl ?_
    refine y_aload_n cx (pc := 252) d_x_guarded_252 rfl 4 rfl ?_
    refine y_iload_n cx (pc := 253) d_x_guarded_253 rfl 5 rfl ?_
    refine y_iload_n cx (pc := 254) d_x_guarded_254 rfl 6 rfl ?_
    refine y_iload cx (pc := 255) d_x_guarded_255 1 rfl ?_
    refine y_vI cx (pc := 257) (st := []) [.int p1, .int p2, .int x17] (c_x_index cx.fl Δ p1 p2 x17 _ _ h) mv_x_index kw_671 (oc_0 Δ) ck_GM rfl (le_b rfl) (by show 3 + 1 ≤ 5 + 3 * d + 1; omega) (by show 12 + (4 + 11) + (85) ≤ 138 + 97 * d + 33; omega) (le_b rfl) (le_b rfl) d_x_guarded_257 (fun x21 σ22 h => ?_) (fun x σ22 h => yt_no h)
    refine y_istore (lv' := [(7, .int x21), (8, .int x19), (6, .int x1), (5, .ref (Δ.1 (18 + p3.toNatClampNeg))), (0, .ref (Δ.1 0)), (1, .int p1), (2, .int p2), (3, .int p3), (4, .int p4)]) cx (pc := 260) d_x_guarded_260 (le_b rfl) rfl ?_
    refine y_aload_n cx (pc := 262) d_x_guarded_262 rfl 4 rfl ?_
    refine y_iload_n cx (pc := 263) d_x_guarded_263 rfl 5 rfl ?_
    refine y_bipush cx (pc := 264) bp_14 d_x_guarded_264 ?_
    refine y_aload_n cx (pc := 266) d_x_guarded_266 rfl 4 rfl ?_
    refine y_vI cx (pc := 267) (st := [.int 14, .int p1, .ref (Δ.1 0)]) [] (c_x_fresh cx.fl Δ _ _ h) mv_x_fresh kw_643 (oc_0 Δ) ck_GM rfl (le_b rfl) (by show 0 + 1 ≤ 5 + 3 * d + 1; omega) (by show 12 + (1 + 11) + (0) ≤ 138 + 97 * d + 33; omega) (le_b rfl) (le_b rfl) d_x_guarded_267 (fun x23 σ24 h => ?_) (fun x σ24 h => yt_no h)
    refine y_iload cx (pc := 270) d_x_guarded_270 0 rfl ?_
    refine y_iconst cx (pc := 272) ic_0 d_x_guarded_272 ?_
    refine y_iconst cx (pc := 273) ic_0 d_x_guarded_273 ?_
    refine y_vI cx (pc := 274) (st := []) [.int p1, .int 14, .int x23, .int x21, .int 0, .int 0] (c_x_put cx.fl Δ p1 14 x23 x21 0 0 _ _ h) mv_x_put kw_647 (oc_0 Δ) ck_GM rfl (le_b rfl) (by show 0 + 1 ≤ 5 + 3 * d + 1; omega) (by show 12 + (7 + 11) + (0) ≤ 138 + 97 * d + 33; omega) (le_b rfl) (le_b rfl) d_x_guarded_274 (fun x25 σ26 h => ?_) (fun x σ26 h => yt_no h)
    refine y_istore (lv' := [(9, .int x25), (7, .int x21), (8, .int x19), (6, .int x1), (5, .ref (Δ.1 (18 + p3.toNatClampNeg))), (0, .ref (Δ.1 0)), (1, .int p1), (2, .int p2), (3, .int p3), (4, .int p4)]) cx (pc := 277) d_x_guarded_277 (le_b rfl) rfl ?_
    refine y_aload_n cx (pc := 279) d_x_guarded_279 rfl 5 rfl ?_
    refine y_iload_n cx (pc := 280) d_x_guarded_280 rfl 6 rfl ?_
    refine y_bipush cx (pc := 281) bp_13 d_x_guarded_281 ?_
    refine y_aload_n cx (pc := 283) d_x_guarded_283 rfl 5 rfl ?_
    refine y_vI cx (pc := 284) (st := [.int 13, .int p1, .ref (Δ.1 0)]) [] (c_x_fresh cx.fl Δ _ _ h) mv_x_fresh kw_643 (oc_0 Δ) ck_GM rfl (le_b rfl) (by show 0 + 1 ≤ 5 + 3 * d + 1; omega) (by show 12 + (1 + 11) + (0) ≤ 138 + 97 * d + 33; omega) (le_b rfl) (le_b rfl) d_x_guarded_284 (fun x27 σ28 h => ?_) (fun x σ28 h => yt_no h)
    refine y_iload_n cx (pc := 287) d_x_guarded_287 rfl 7 rfl ?_
    refine y_iload cx (pc := 288) d_x_guarded_288 2 rfl ?_
    refine y_iload cx (pc := 290) d_x_guarded_290 0 rfl ?_
    refine y_vI cx (pc := 292) (st := []) [.int p1, .int 13, .int x27, .int p2, .int x19, .int x25] (c_x_put cx.fl Δ p1 13 x27 p2 x19 x25 _ _ h) mv_x_put kw_647 (oc_0 Δ) ck_GM rfl (le_b rfl) (by show 0 + 1 ≤ 5 + 3 * d + 1; omega) (by show 12 + (7 + 11) + (0) ≤ 138 + 97 * d + 33; omega) (le_b rfl) (le_b rfl) d_x_guarded_292 (fun x29 σ30 h => ?_) (fun x σ30 h => yt_no h)
    refine y_istore (lv' := [(8, .int x29), (9, .int x25), (7, .int x21), (6, .int x1), (5, .ref (Δ.1 (18 + p3.toNatClampNeg))), (0, .ref (Δ.1 0)), (1, .int p1), (2, .int p2), (3, .int p3), (4, .int p4)]) cx (pc := 295) d_x_guarded_295 (le_b rfl) rfl ?_
    refine y_aload_n cx (pc := 297) d_x_guarded_297 rfl 5 rfl ?_
    refine y_iload_n cx (pc := 298) d_x_guarded_298 rfl 6 rfl ?_
    refine y_bipush cx (pc := 299) bp_15 d_x_guarded_299 ?_
    refine y_iload cx (pc := 301) d_x_guarded_301 2 rfl ?_
    refine y_iload cx (pc := 303) d_x_guarded_303 0 rfl ?_
    refine y_iconst cx (pc := 305) ic_0 d_x_guarded_305 ?_
    refine y_iconst cx (pc := 306) ic_0 d_x_guarded_306 ?_
    refine y_vI cx (pc := 307) (st := []) [.int p1, .int 15, .int x21, .int x29, .int 0, .int 0] (c_x_put cx.fl Δ p1 15 x21 x29 0 0 _ _ h) mv_x_put kw_647 (oc_0 Δ) ck_GM rfl (le_b rfl) (by show 0 + 1 ≤ 5 + 3 * d + 1; omega) (by show 12 + (7 + 11) + (0) ≤ 138 + 97 * d + 33; omega) (le_b rfl) (le_b rfl) d_x_guarded_307 (fun x31 σ32 h => ?_) (fun x σ32 h => yt_no h)
    refine y_pop cx (pc := 310) rfl d_x_guarded_310 ?_
    refine y_goto cx (pc := 311) (tgt := 323) d_x_guarded_311 (by decide) ?_
    refine y_sub [] rfl ?_
    exact b_x_guarded_323 cx hRA σ32 h
  replace h := h.2 hc3
  refine y_tOut cx (pc := 28) (tgt := 314) d_x_guarded_28 (by have z0 := lv_neT hc0 (show (0 : Int32).toInt = 0 from rfl); have z1 := lv_neT hc1 (show (1 : Int32).toInt = 1 from rfl); have z2 := lv_neT hc2 (show (2 : Int32).toInt = 2 from rfl); have z3 := lv_neT hc3 (show (3 : Int32).toInt = 3 from rfl); omega) (by decide) ?_
  refine y_aload_n cx (pc := 314) d_x_guarded_314 rfl 2 rfl ?_
  refine y_iload_n cx (pc := 315) d_x_guarded_315 rfl 3 rfl ?_
  refine y_iload_n cx (pc := 316) d_x_guarded_316 rfl 4 rfl ?_
  refine y_iload_n cx (pc := 317) d_x_guarded_317 rfl 5 rfl ?_
  refine y_iload cx (pc := 318) d_x_guarded_318 6 rfl ?_
  refine y_vV cx (pc := 320) (st := []) [.int p1, .int p2, .int p3, .int p4] (hRA p1 p2 p3 p4 _ _ h) (mv_x_convert d) kw_623 (oc_0 Δ) ck_GM rfl (le_b rfl) (by show 5 + 3 * d + 1 ≤ 5 + 3 * d + 1; omega) (by show 12 + (10 + 11) + (138 + 97 * d) ≤ 138 + 97 * d + 33; omega) (le_b rfl) (le_b rfl) d_x_guarded_320 (fun σ33 h => ?_) (fun x σ33 h => yt_no h)
  refine y_sub [] rfl ?_
  exact b_x_guarded_323 cx hRA σ33 h
theorem c_x_guarded {l : Launch} (hfl : l.flags = flags0) (Δ : Ly) (RA : Int32 → Int32 → Int32 → Int32 → Sg → (Sg → Prop) → Prop) (d : Nat) (hRA : ∀ (p1 : Int32) (p2 : Int32) (p3 : Int32) (p4 : Int32) (σ : Sg) (Q : Sg → Prop) , RA p1 p2 p3 p4 σ Q  → Ct l Δ (mi_x_convert d) [.ref (Δ.1 0), .int p1, .int p2, .int p3, .int p4] σ (qV Q) noE) (p1 : Int32) (p2 : Int32) (p3 : Int32) (p4 : Int32) (σ : Sg) (Q : Sg → Prop) (h : w_x_guarded RA p1 p2 p3 p4 σ Q) : Ct l Δ (mi_x_guarded d) [.ref (Δ.1 0), .int p1, .int p2, .int p3, .int p4] σ (qV Q) noE :=
  Ct.of hfl (by show plainFor ⟨"GuardedMoves", "guarded", "(IIII)V"⟩ = true; decide +kernel) rfl (le_b rfl) (fun G hl cx => by subst hl; exact b_x_guarded cx hRA p1 p2 p3 p4 σ h)
def w_x_side_3 (RA : Int32 → Int32 → Int32 → Int32 → Sg → (Sg → Prop) → Prop) (Q : Sg → Prop) : Nat → Int32 → Int32 → Int32 → Int32 → Int32 → Sg → Prop
  | 0, _, _, _, _, _, _ => False
  | n + 1, v2, v3, v4, v5, v6, σ => (v2 ≤ v6 → (Q σ)) ∧ (¬ v2 ≤ v6 → (w_x_guarded RA v6 v3 v4 v5 σ (fun σ1 => w_t_next v6 σ1 (fun x2 σ3 => (w_x_side_3 RA Q n) v2 v3 v4 v5 x2 σ3))))
theorem b_x_side_3 {Δ : Ly} {G : Gm} {d : Nat} {RA : Int32 → Int32 → Int32 → Int32 → Sg → (Sg → Prop) → Prop} {Q : Sg → Prop} (cx : Cx Δ G (mi_x_side d)) (hRA : ∀ (p1 : Int32) (p2 : Int32) (p3 : Int32) (p4 : Int32) (σ : Sg) (Q : Sg → Prop) , RA p1 p2 p3 p4 σ Q  → Ct (g_l G) Δ (mi_x_convert d) [.ref (Δ.1 0), .int p1, .int p2, .int p3, .int p4] σ (qV Q) noE) : ∀ (n : Nat) (v2 : Int32) (v3 : Int32) (v4 : Int32) (v5 : Int32) (v6 : Int32) (σ : Sg), w_x_side_3 RA Q n v2 v3 v4 v5 v6 σ → Y Δ G (mi_x_side d) (qV Q) noE 0 0 σ 3 [(0, .ref (Δ.1 0)), (2, .int v2), (3, .int v3), (4, .int v4), (5, .int v5), (6, .int v6)] [] := by
  intro n
  induction n with
  | zero => intro v2 v3 v4 v5 v6 σ h; exact h.elim
  | succ n ih =>
    intro v2 v3 v4 v5 v6 σ h
    unfold w_x_side_3 at h
    refine y_iload cx (pc := 3) d_x_side_3 5 rfl ?_
    refine y_iload_n cx (pc := 5) d_x_side_5 rfl 1 rfl ?_
    refine y_icmp_ge cx (pc := 6) (tgt := 34) d_x_side_6 (by decide) (fun hc => ?_) (fun hc => ?_)
    · replace h := h.1 hc
      exact y_vret cx (pc := 34) rfl d_x_side_34 (le_b rfl) (le_b rfl) h
    · replace h := h.2 hc
      refine y_aload_n cx (pc := 9) d_x_side_9 rfl 0 rfl ?_
      refine y_iload cx (pc := 10) d_x_side_10 5 rfl ?_
      refine y_iload_n cx (pc := 12) d_x_side_12 rfl 2 rfl ?_
      refine y_iload cx (pc := 13) d_x_side_13 3 rfl ?_
      refine y_iload cx (pc := 15) d_x_side_15 4 rfl ?_
      refine y_vV cx (pc := 17) (st := []) [.int v6, .int v3, .int v4, .int v5] (c_x_guarded cx.fl Δ RA d hRA v6 v3 v4 v5 _ _ h) (mv_x_guarded d) kw_663 (oc_0 Δ) ck_GM rfl (le_b rfl) (by show 5 + 3 * d + 1 + 1 ≤ 5 + 3 * d + 2; omega) (by show 12 + (11 + 11) + (138 + 97 * d + 33) ≤ 138 + 97 * d + 67; omega) (le_b rfl) (le_b rfl) d_x_side_17 (fun σ1 h => ?_) (fun x σ1 h => yt_no h)
      refine y_aload_n cx (pc := 20) d_x_side_20 rfl 0 rfl ?_
      refine y_get cx (pc := 21) (j := 0) (v := .ref (Δ.1 1)) (le_b rfl) ck_GM kw_397 (le_b rfl) (gf_0_0 Δ _) d_x_side_21 ?_
      refine y_iload cx (pc := 24) d_x_side_24 5 rfl ?_
      refine y_vI cx (pc := 26) (st := []) [.int v6] (c_t_next cx.fl Δ v6 _ _ h) mv_t_next kw_238 (oc_1 Δ) ck_Tx rfl (le_b rfl) (by show 0 + 1 ≤ 5 + 3 * d + 2; omega) (by show 12 + (2 + 11) + (0) ≤ 138 + 97 * d + 67; omega) (le_b rfl) (le_b rfl) d_x_side_26 (fun x2 σ3 h => ?_) (fun x σ3 h => yt_no h)
      refine y_istore (lv' := [(6, .int x2), (0, .ref (Δ.1 0)), (2, .int v2), (3, .int v3), (4, .int v4), (5, .int v5)]) cx (pc := 29) d_x_side_29 (le_b rfl) rfl ?_
      refine y_goto cx (pc := 31) (tgt := 3) d_x_side_31 (by decide) ?_
      refine y_sub [1, 2, 3, 4, 5, 0] rfl ?_
      exact ih v2 v3 v4 v5 x2 σ3 h
def w_x_side (RA : Int32 → Int32 → Int32 → Int32 → Sg → (Sg → Prop) → Prop) (p1 : Int32) (p2 : Int32) (p3 : Int32) (p4 : Int32) (p5 : Int32) (σ : Sg) (Q : Sg → Prop) : Prop := ∃ q3, w_x_side_3 RA Q q3 p2 p3 p4 p5 p1 σ
theorem b_x_side {Δ : Ly} {G : Gm} {d : Nat} {RA : Int32 → Int32 → Int32 → Int32 → Sg → (Sg → Prop) → Prop} {Q : Sg → Prop} (cx : Cx Δ G (mi_x_side d)) (hRA : ∀ (p1 : Int32) (p2 : Int32) (p3 : Int32) (p4 : Int32) (σ : Sg) (Q : Sg → Prop) , RA p1 p2 p3 p4 σ Q  → Ct (g_l G) Δ (mi_x_convert d) [.ref (Δ.1 0), .int p1, .int p2, .int p3, .int p4] σ (qV Q) noE) (p1 : Int32) (p2 : Int32) (p3 : Int32) (p4 : Int32) (p5 : Int32) (σ : Sg) (h : w_x_side RA p1 p2 p3 p4 p5 σ Q) : Y Δ G (mi_x_side d) (qV Q) noE 0 0 σ 0 [(0, .ref (Δ.1 0)), (1, .int p1), (2, .int p2), (3, .int p3), (4, .int p4), (5, .int p5)] [] := by
  unfold w_x_side at h
  refine y_iload_n cx (pc := 0) d_x_side_0 rfl 1 rfl ?_
  refine y_istore (lv' := [(6, .int p1), (0, .ref (Δ.1 0)), (1, .int p1), (2, .int p2), (3, .int p3), (4, .int p4), (5, .int p5)]) cx (pc := 1) d_x_side_1 (le_b rfl) rfl ?_
  refine y_sub [1, 3, 4, 5, 6, 0] rfl ?_
  obtain ⟨n, h⟩ := h
  exact b_x_side_3 cx hRA n p2 p3 p4 p5 p1 σ h
theorem c_x_side {l : Launch} (hfl : l.flags = flags0) (Δ : Ly) (RA : Int32 → Int32 → Int32 → Int32 → Sg → (Sg → Prop) → Prop) (d : Nat) (hRA : ∀ (p1 : Int32) (p2 : Int32) (p3 : Int32) (p4 : Int32) (σ : Sg) (Q : Sg → Prop) , RA p1 p2 p3 p4 σ Q  → Ct l Δ (mi_x_convert d) [.ref (Δ.1 0), .int p1, .int p2, .int p3, .int p4] σ (qV Q) noE) (p1 : Int32) (p2 : Int32) (p3 : Int32) (p4 : Int32) (p5 : Int32) (σ : Sg) (Q : Sg → Prop) (h : w_x_side RA p1 p2 p3 p4 p5 σ Q) : Ct l Δ (mi_x_side d) [.ref (Δ.1 0), .int p1, .int p2, .int p3, .int p4, .int p5] σ (qV Q) noE :=
  Ct.of hfl (by show plainFor ⟨"GuardedMoves", "side", "(IIIII)V"⟩ = true; decide +kernel) rfl (le_b rfl) (fun G hl cx => by subst hl; exact b_x_side cx hRA p1 p2 p3 p4 p5 σ h)
