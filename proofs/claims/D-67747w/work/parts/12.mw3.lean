def mi_m_readStatement : Mi := ("GuardedMovesModel", prog_6_method_19_code, 5, [], none, 4, 110, 0, 0, ⟨"GuardedMovesModel", "readStatement", "(I)V"⟩)
theorem d_m_readStatement_0 : decode prog_6_method_19_code 0 = .ok (.iload_n 1, 1) := by decide +kernel
theorem d_m_readStatement_1 : decode prog_6_method_19_code 1 = .ok (.invokestatic 153, 3) := by decide +kernel
theorem d_m_readStatement_4 : decode prog_6_method_19_code 4 = .ok (.ifCond .ne 21, 3) := by decide +kernel
theorem d_m_readStatement_7 : decode prog_6_method_19_code 7 = .ok (.iload_n 1, 1) := by decide +kernel
theorem d_m_readStatement_8 : decode prog_6_method_19_code 8 = .ok (.bipush 64, 2) := by decide +kernel
theorem d_m_readStatement_10 : decode prog_6_method_19_code 10 = .ok (.if_icmp .eq 15, 3) := by decide +kernel
theorem d_m_readStatement_13 : decode prog_6_method_19_code 13 = .ok (.iload_n 1, 1) := by decide +kernel
theorem d_m_readStatement_14 : decode prog_6_method_19_code 14 = .ok (.bipush 33, 2) := by decide +kernel
theorem d_m_readStatement_16 : decode prog_6_method_19_code 16 = .ok (.if_icmp .eq 9, 3) := by decide +kernel
theorem d_m_readStatement_19 : decode prog_6_method_19_code 19 = .ok (.iload_n 1, 1) := by decide +kernel
theorem d_m_readStatement_20 : decode prog_6_method_19_code 20 = .ok (.bipush 63, 2) := by decide +kernel
theorem d_m_readStatement_22 : decode prog_6_method_19_code 22 = .ok (.if_icmp .ne 7, 3) := by decide +kernel
theorem d_m_readStatement_25 : decode prog_6_method_19_code 25 = .ok (.iconst 1, 1) := by decide +kernel
theorem d_m_readStatement_26 : decode prog_6_method_19_code 26 = .ok (.goto 4, 3) := by decide +kernel
theorem d_m_readStatement_29 : decode prog_6_method_19_code 29 = .ok (.iconst 0, 1) := by decide +kernel
theorem d_m_readStatement_30 : decode prog_6_method_19_code 30 = .ok (.istore_n 2, 1) := by decide +kernel
theorem d_m_readStatement_31 : decode prog_6_method_19_code 31 = .ok (.iload_n 2, 1) := by decide +kernel
theorem d_m_readStatement_32 : decode prog_6_method_19_code 32 = .ok (.ifCond .ne 15, 3) := by decide +kernel
theorem d_m_readStatement_35 : decode prog_6_method_19_code 35 = .ok (.aload_n 0, 1) := by decide +kernel
theorem d_m_readStatement_36 : decode prog_6_method_19_code 36 = .ok (.iconst 1, 1) := by decide +kernel
theorem d_m_readStatement_37 : decode prog_6_method_19_code 37 = .ok (.aload_n 0, 1) := by decide +kernel
theorem d_m_readStatement_38 : decode prog_6_method_19_code 38 = .ok (.getfield 130, 3) := by decide +kernel
theorem d_m_readStatement_41 : decode prog_6_method_19_code 41 = .ok (.invokevirtual 137, 3) := by decide +kernel
theorem d_m_readStatement_44 : decode prog_6_method_19_code 44 = .ok (.goto 48, 3) := by decide +kernel
theorem d_m_readStatement_47 : decode prog_6_method_19_code 47 = .ok (.aload_n 0, 1) := by decide +kernel
theorem d_m_readStatement_48 : decode prog_6_method_19_code 48 = .ok (.getfield 174, 3) := by decide +kernel
theorem d_m_readStatement_51 : decode prog_6_method_19_code 51 = .ok (.bipush 60, 2) := by decide +kernel
theorem d_m_readStatement_53 : decode prog_6_method_19_code 53 = .ok (.if_icmp .ne 15, 3) := by decide +kernel
theorem d_m_readStatement_56 : decode prog_6_method_19_code 56 = .ok (.aload_n 0, 1) := by decide +kernel
theorem d_m_readStatement_57 : decode prog_6_method_19_code 57 = .ok (.iconst 3, 1) := by decide +kernel
theorem d_m_readStatement_58 : decode prog_6_method_19_code 58 = .ok (.aload_n 0, 1) := by decide +kernel
theorem d_m_readStatement_59 : decode prog_6_method_19_code 59 = .ok (.getfield 130, 3) := by decide +kernel
theorem d_m_readStatement_62 : decode prog_6_method_19_code 62 = .ok (.invokevirtual 137, 3) := by decide +kernel
theorem d_m_readStatement_65 : decode prog_6_method_19_code 65 = .ok (.goto 27, 3) := by decide +kernel
theorem d_m_readStatement_68 : decode prog_6_method_19_code 68 = .ok (.iload_n 1, 1) := by decide +kernel
theorem d_m_readStatement_69 : decode prog_6_method_19_code 69 = .ok (.bipush 63, 2) := by decide +kernel
theorem d_m_readStatement_71 : decode prog_6_method_19_code 71 = .ok (.if_icmp .ne 21, 3) := by decide +kernel
theorem d_m_readStatement_74 : decode prog_6_method_19_code 74 = .ok (.aload_n 0, 1) := by decide +kernel
theorem d_m_readStatement_75 : decode prog_6_method_19_code 75 = .ok (.getfield 177, 3) := by decide +kernel
theorem d_m_readStatement_78 : decode prog_6_method_19_code 78 = .ok (.bipush 6, 2) := by decide +kernel
theorem d_m_readStatement_80 : decode prog_6_method_19_code 80 = .ok (.if_icmp .ne 12, 3) := by decide +kernel
theorem d_m_readStatement_83 : decode prog_6_method_19_code 83 = .ok (.aload_n 0, 1) := by decide +kernel
theorem d_m_readStatement_84 : decode prog_6_method_19_code 84 = .ok (.iconst 4, 1) := by decide +kernel
theorem d_m_readStatement_85 : decode prog_6_method_19_code 85 = .ok (.aload_n 0, 1) := by decide +kernel
theorem d_m_readStatement_86 : decode prog_6_method_19_code 86 = .ok (.getfield 130, 3) := by decide +kernel
theorem d_m_readStatement_89 : decode prog_6_method_19_code 89 = .ok (.invokevirtual 137, 3) := by decide +kernel
theorem d_m_readStatement_92 : decode prog_6_method_19_code 92 = .ok (.aload_n 0, 1) := by decide +kernel
theorem d_m_readStatement_93 : decode prog_6_method_19_code 93 = .ok (.getfield 124, 3) := by decide +kernel
theorem d_m_readStatement_96 : decode prog_6_method_19_code 96 = .ok (.ifCond .le 4, 3) := by decide +kernel
theorem d_m_readStatement_99 : decode prog_6_method_19_code 99 = .ok (.return_, 1) := by decide +kernel
theorem d_m_readStatement_100 : decode prog_6_method_19_code 100 = .ok (.aload_n 0, 1) := by decide +kernel
theorem d_m_readStatement_101 : decode prog_6_method_19_code 101 = .ok (.getfield 174, 3) := by decide +kernel
theorem d_m_readStatement_104 : decode prog_6_method_19_code 104 = .ok (.istore_n 3, 1) := by decide +kernel
theorem d_m_readStatement_105 : decode prog_6_method_19_code 105 = .ok (.aload_n 0, 1) := by decide +kernel
theorem d_m_readStatement_106 : decode prog_6_method_19_code 106 = .ok (.dup, 1) := by decide +kernel
theorem d_m_readStatement_107 : decode prog_6_method_19_code 107 = .ok (.getfield 174, 3) := by decide +kernel
theorem d_m_readStatement_110 : decode prog_6_method_19_code 110 = .ok (.iconst 1, 1) := by decide +kernel
theorem d_m_readStatement_111 : decode prog_6_method_19_code 111 = .ok (.iadd, 1) := by decide +kernel
theorem d_m_readStatement_112 : decode prog_6_method_19_code 112 = .ok (.putfield 174, 3) := by decide +kernel
theorem d_m_readStatement_115 : decode prog_6_method_19_code 115 = .ok (.iconst 0, 1) := by decide +kernel
theorem d_m_readStatement_116 : decode prog_6_method_19_code 116 = .ok (.istore 4, 2) := by decide +kernel
theorem d_m_readStatement_118 : decode prog_6_method_19_code 118 = .ok (.iload 4, 2) := by decide +kernel
theorem d_m_readStatement_120 : decode prog_6_method_19_code 120 = .ok (.bipush 9, 2) := by decide +kernel
theorem d_m_readStatement_122 : decode prog_6_method_19_code 122 = .ok (.if_icmp .ge 22, 3) := by decide +kernel
theorem d_m_readStatement_125 : decode prog_6_method_19_code 125 = .ok (.aload_n 0, 1) := by decide +kernel
theorem d_m_readStatement_126 : decode prog_6_method_19_code 126 = .ok (.getfield 19, 3) := by decide +kernel
theorem d_m_readStatement_129 : decode prog_6_method_19_code 129 = .ok (.bipush 9, 2) := by decide +kernel
theorem d_m_readStatement_131 : decode prog_6_method_19_code 131 = .ok (.iload_n 3, 1) := by decide +kernel
theorem d_m_readStatement_132 : decode prog_6_method_19_code 132 = .ok (.imul, 1) := by decide +kernel
theorem d_m_readStatement_133 : decode prog_6_method_19_code 133 = .ok (.iload 4, 2) := by decide +kernel
theorem d_m_readStatement_135 : decode prog_6_method_19_code 135 = .ok (.iadd, 1) := by decide +kernel
theorem d_m_readStatement_136 : decode prog_6_method_19_code 136 = .ok (.iconst 0, 1) := by decide +kernel
theorem d_m_readStatement_137 : decode prog_6_method_19_code 137 = .ok (.iastore, 1) := by decide +kernel
theorem d_m_readStatement_138 : decode prog_6_method_19_code 138 = .ok (.iinc 4 1, 3) := by decide +kernel
theorem d_m_readStatement_141 : decode prog_6_method_19_code 141 = .ok (.goto (-23), 3) := by decide +kernel
theorem d_m_readStatement_144 : decode prog_6_method_19_code 144 = .ok (.aload_n 0, 1) := by decide +kernel
theorem d_m_readStatement_145 : decode prog_6_method_19_code 145 = .ok (.getfield 19, 3) := by decide +kernel
theorem d_m_readStatement_148 : decode prog_6_method_19_code 148 = .ok (.bipush 9, 2) := by decide +kernel
theorem d_m_readStatement_150 : decode prog_6_method_19_code 150 = .ok (.iload_n 3, 1) := by decide +kernel
theorem d_m_readStatement_151 : decode prog_6_method_19_code 151 = .ok (.imul, 1) := by decide +kernel
theorem d_m_readStatement_152 : decode prog_6_method_19_code 152 = .ok (.bipush 7, 2) := by decide +kernel
theorem d_m_readStatement_154 : decode prog_6_method_19_code 154 = .ok (.iadd, 1) := by decide +kernel
theorem d_m_readStatement_155 : decode prog_6_method_19_code 155 = .ok (.aload_n 0, 1) := by decide +kernel
theorem d_m_readStatement_156 : decode prog_6_method_19_code 156 = .ok (.getfield 177, 3) := by decide +kernel
theorem d_m_readStatement_159 : decode prog_6_method_19_code 159 = .ok (.iastore, 1) := by decide +kernel
theorem d_m_readStatement_160 : decode prog_6_method_19_code 160 = .ok (.aload_n 0, 1) := by decide +kernel
theorem d_m_readStatement_161 : decode prog_6_method_19_code 161 = .ok (.getfield 25, 3) := by decide +kernel
theorem d_m_readStatement_164 : decode prog_6_method_19_code 164 = .ok (.iload_n 3, 1) := by decide +kernel
theorem d_m_readStatement_165 : decode prog_6_method_19_code 165 = .ok (.iload_n 3, 1) := by decide +kernel
theorem d_m_readStatement_166 : decode prog_6_method_19_code 166 = .ok (.iconst 1, 1) := by decide +kernel
theorem d_m_readStatement_167 : decode prog_6_method_19_code 167 = .ok (.iadd, 1) := by decide +kernel
theorem d_m_readStatement_168 : decode prog_6_method_19_code 168 = .ok (.iastore, 1) := by decide +kernel
theorem d_m_readStatement_169 : decode prog_6_method_19_code 169 = .ok (.aload_n 0, 1) := by decide +kernel
theorem d_m_readStatement_170 : decode prog_6_method_19_code 170 = .ok (.getfield 28, 3) := by decide +kernel
theorem d_m_readStatement_173 : decode prog_6_method_19_code 173 = .ok (.iload_n 3, 1) := by decide +kernel
theorem d_m_readStatement_174 : decode prog_6_method_19_code 174 = .ok (.iload_n 3, 1) := by decide +kernel
theorem d_m_readStatement_175 : decode prog_6_method_19_code 175 = .ok (.iconst 1, 1) := by decide +kernel
theorem d_m_readStatement_176 : decode prog_6_method_19_code 176 = .ok (.iadd, 1) := by decide +kernel
theorem d_m_readStatement_177 : decode prog_6_method_19_code 177 = .ok (.iastore, 1) := by decide +kernel
theorem d_m_readStatement_178 : decode prog_6_method_19_code 178 = .ok (.iload_n 1, 1) := by decide +kernel
theorem d_m_readStatement_179 : decode prog_6_method_19_code 179 = .ok (.invokestatic 153, 3) := by decide +kernel
theorem d_m_readStatement_182 : decode prog_6_method_19_code 182 = .ok (.ifCond .eq 11, 3) := by decide +kernel
theorem d_m_readStatement_185 : decode prog_6_method_19_code 185 = .ok (.aload_n 0, 1) := by decide +kernel
theorem d_m_readStatement_186 : decode prog_6_method_19_code 186 = .ok (.iload_n 3, 1) := by decide +kernel
theorem d_m_readStatement_187 : decode prog_6_method_19_code 187 = .ok (.invokevirtual 180, 3) := by decide +kernel
theorem d_m_readStatement_190 : decode prog_6_method_19_code 190 = .ok (.goto 136, 3) := by decide +kernel
theorem d_m_readStatement_193 : decode prog_6_method_19_code 193 = .ok (.iload_n 1, 1) := by decide +kernel
theorem d_m_readStatement_194 : decode prog_6_method_19_code 194 = .ok (.bipush 64, 2) := by decide +kernel
theorem d_m_readStatement_196 : decode prog_6_method_19_code 196 = .ok (.if_icmp .ne 52, 3) := by decide +kernel
theorem d_m_readStatement_199 : decode prog_6_method_19_code 199 = .ok (.aload_n 0, 1) := by decide +kernel
theorem d_m_readStatement_200 : decode prog_6_method_19_code 200 = .ok (.dup, 1) := by decide +kernel
theorem d_m_readStatement_201 : decode prog_6_method_19_code 201 = .ok (.getfield 130, 3) := by decide +kernel
theorem d_m_readStatement_204 : decode prog_6_method_19_code 204 = .ok (.iconst 1, 1) := by decide +kernel
theorem d_m_readStatement_205 : decode prog_6_method_19_code 205 = .ok (.iadd, 1) := by decide +kernel
theorem d_m_readStatement_206 : decode prog_6_method_19_code 206 = .ok (.putfield 130, 3) := by decide +kernel
theorem d_m_readStatement_209 : decode prog_6_method_19_code 209 = .ok (.aload_n 0, 1) := by decide +kernel
theorem d_m_readStatement_210 : decode prog_6_method_19_code 210 = .ok (.getfield 19, 3) := by decide +kernel
theorem d_m_readStatement_213 : decode prog_6_method_19_code 213 = .ok (.bipush 9, 2) := by decide +kernel
theorem d_m_readStatement_215 : decode prog_6_method_19_code 215 = .ok (.iload_n 3, 1) := by decide +kernel
theorem d_m_readStatement_216 : decode prog_6_method_19_code 216 = .ok (.imul, 1) := by decide +kernel
theorem d_m_readStatement_217 : decode prog_6_method_19_code 217 = .ok (.iconst 0, 1) := by decide +kernel
theorem d_m_readStatement_218 : decode prog_6_method_19_code 218 = .ok (.iadd, 1) := by decide +kernel
theorem d_m_readStatement_219 : decode prog_6_method_19_code 219 = .ok (.iconst 3, 1) := by decide +kernel
theorem d_m_readStatement_220 : decode prog_6_method_19_code 220 = .ok (.iastore, 1) := by decide +kernel
theorem d_m_readStatement_221 : decode prog_6_method_19_code 221 = .ok (.aload_n 0, 1) := by decide +kernel
theorem d_m_readStatement_222 : decode prog_6_method_19_code 222 = .ok (.iload_n 3, 1) := by decide +kernel
theorem d_m_readStatement_223 : decode prog_6_method_19_code 223 = .ok (.iconst 3, 1) := by decide +kernel
theorem d_m_readStatement_224 : decode prog_6_method_19_code 224 = .ok (.invokevirtual 164, 3) := by decide +kernel
theorem d_m_readStatement_227 : decode prog_6_method_19_code 227 = .ok (.aload_n 0, 1) := by decide +kernel
theorem d_m_readStatement_228 : decode prog_6_method_19_code 228 = .ok (.bipush 61, 2) := by decide +kernel
theorem d_m_readStatement_230 : decode prog_6_method_19_code 230 = .ok (.invokevirtual 160, 3) := by decide +kernel
theorem d_m_readStatement_233 : decode prog_6_method_19_code 233 = .ok (.aload_n 0, 1) := by decide +kernel
theorem d_m_readStatement_234 : decode prog_6_method_19_code 234 = .ok (.iload_n 3, 1) := by decide +kernel
theorem d_m_readStatement_235 : decode prog_6_method_19_code 235 = .ok (.iconst 5, 1) := by decide +kernel
theorem d_m_readStatement_236 : decode prog_6_method_19_code 236 = .ok (.invokevirtual 164, 3) := by decide +kernel
theorem d_m_readStatement_239 : decode prog_6_method_19_code 239 = .ok (.aload_n 0, 1) := by decide +kernel
theorem d_m_readStatement_240 : decode prog_6_method_19_code 240 = .ok (.bipush 59, 2) := by decide +kernel
theorem d_m_readStatement_242 : decode prog_6_method_19_code 242 = .ok (.invokevirtual 160, 3) := by decide +kernel
theorem d_m_readStatement_245 : decode prog_6_method_19_code 245 = .ok (.goto 81, 3) := by decide +kernel
theorem d_m_readStatement_248 : decode prog_6_method_19_code 248 = .ok (.iload_n 1, 1) := by decide +kernel
theorem d_m_readStatement_249 : decode prog_6_method_19_code 249 = .ok (.bipush 33, 2) := by decide +kernel
theorem d_m_readStatement_251 : decode prog_6_method_19_code 251 = .ok (.if_icmp .ne 40, 3) := by decide +kernel
theorem d_m_readStatement_254 : decode prog_6_method_19_code 254 = .ok (.aload_n 0, 1) := by decide +kernel
theorem d_m_readStatement_255 : decode prog_6_method_19_code 255 = .ok (.dup, 1) := by decide +kernel
theorem d_m_readStatement_256 : decode prog_6_method_19_code 256 = .ok (.getfield 130, 3) := by decide +kernel
theorem d_m_readStatement_259 : decode prog_6_method_19_code 259 = .ok (.iconst 1, 1) := by decide +kernel
theorem d_m_readStatement_260 : decode prog_6_method_19_code 260 = .ok (.iadd, 1) := by decide +kernel
theorem d_m_readStatement_261 : decode prog_6_method_19_code 261 = .ok (.putfield 130, 3) := by decide +kernel
theorem d_m_readStatement_264 : decode prog_6_method_19_code 264 = .ok (.aload_n 0, 1) := by decide +kernel
theorem d_m_readStatement_265 : decode prog_6_method_19_code 265 = .ok (.getfield 19, 3) := by decide +kernel
theorem d_m_readStatement_268 : decode prog_6_method_19_code 268 = .ok (.bipush 9, 2) := by decide +kernel
theorem d_m_readStatement_270 : decode prog_6_method_19_code 270 = .ok (.iload_n 3, 1) := by decide +kernel
theorem d_m_readStatement_271 : decode prog_6_method_19_code 271 = .ok (.imul, 1) := by decide +kernel
theorem d_m_readStatement_272 : decode prog_6_method_19_code 272 = .ok (.iconst 0, 1) := by decide +kernel
theorem d_m_readStatement_273 : decode prog_6_method_19_code 273 = .ok (.iadd, 1) := by decide +kernel
theorem d_m_readStatement_274 : decode prog_6_method_19_code 274 = .ok (.iconst 4, 1) := by decide +kernel
theorem d_m_readStatement_275 : decode prog_6_method_19_code 275 = .ok (.iastore, 1) := by decide +kernel
theorem d_m_readStatement_276 : decode prog_6_method_19_code 276 = .ok (.aload_n 0, 1) := by decide +kernel
theorem d_m_readStatement_277 : decode prog_6_method_19_code 277 = .ok (.iload_n 3, 1) := by decide +kernel
theorem d_m_readStatement_278 : decode prog_6_method_19_code 278 = .ok (.iconst 3, 1) := by decide +kernel
theorem d_m_readStatement_279 : decode prog_6_method_19_code 279 = .ok (.invokevirtual 164, 3) := by decide +kernel
theorem d_m_readStatement_282 : decode prog_6_method_19_code 282 = .ok (.aload_n 0, 1) := by decide +kernel
theorem d_m_readStatement_283 : decode prog_6_method_19_code 283 = .ok (.bipush 59, 2) := by decide +kernel
theorem d_m_readStatement_285 : decode prog_6_method_19_code 285 = .ok (.invokevirtual 160, 3) := by decide +kernel
theorem d_m_readStatement_288 : decode prog_6_method_19_code 288 = .ok (.goto 38, 3) := by decide +kernel
theorem d_m_readStatement_291 : decode prog_6_method_19_code 291 = .ok (.aload_n 0, 1) := by decide +kernel
theorem d_m_readStatement_292 : decode prog_6_method_19_code 292 = .ok (.iload_n 3, 1) := by decide +kernel
theorem d_m_readStatement_293 : decode prog_6_method_19_code 293 = .ok (.invokevirtual 183, 3) := by decide +kernel
theorem d_m_readStatement_296 : decode prog_6_method_19_code 296 = .ok (.aload_n 0, 1) := by decide +kernel
theorem d_m_readStatement_297 : decode prog_6_method_19_code 297 = .ok (.getfield 37, 3) := by decide +kernel
theorem d_m_readStatement_300 : decode prog_6_method_19_code 300 = .ok (.aload_n 0, 1) := by decide +kernel
theorem d_m_readStatement_301 : decode prog_6_method_19_code 301 = .ok (.getfield 177, 3) := by decide +kernel
theorem d_m_readStatement_304 : decode prog_6_method_19_code 304 = .ok (.iload_n 3, 1) := by decide +kernel
theorem d_m_readStatement_305 : decode prog_6_method_19_code 305 = .ok (.iastore, 1) := by decide +kernel
theorem d_m_readStatement_306 : decode prog_6_method_19_code 306 = .ok (.aload_n 0, 1) := by decide +kernel
theorem d_m_readStatement_307 : decode prog_6_method_19_code 307 = .ok (.getfield 40, 3) := by decide +kernel
theorem d_m_readStatement_310 : decode prog_6_method_19_code 310 = .ok (.aload_n 0, 1) := by decide +kernel
theorem d_m_readStatement_311 : decode prog_6_method_19_code 311 = .ok (.getfield 177, 3) := by decide +kernel
theorem d_m_readStatement_314 : decode prog_6_method_19_code 314 = .ok (.iconst 0, 1) := by decide +kernel
theorem d_m_readStatement_315 : decode prog_6_method_19_code 315 = .ok (.bastore, 1) := by decide +kernel
theorem d_m_readStatement_316 : decode prog_6_method_19_code 316 = .ok (.aload_n 0, 1) := by decide +kernel
theorem d_m_readStatement_317 : decode prog_6_method_19_code 317 = .ok (.dup, 1) := by decide +kernel
theorem d_m_readStatement_318 : decode prog_6_method_19_code 318 = .ok (.getfield 177, 3) := by decide +kernel
theorem d_m_readStatement_321 : decode prog_6_method_19_code 321 = .ok (.iconst 1, 1) := by decide +kernel
theorem d_m_readStatement_322 : decode prog_6_method_19_code 322 = .ok (.iadd, 1) := by decide +kernel
theorem d_m_readStatement_323 : decode prog_6_method_19_code 323 = .ok (.putfield 177, 3) := by decide +kernel
theorem d_m_readStatement_326 : decode prog_6_method_19_code 326 = .ok (.return_, 1) := by decide +kernel
theorem kc_m_readStatement : Kw (m_w (mi_m_readStatement )) := ⟨(in_t4 (List.mem_of_getElem? (i := 206) rfl)), rfl⟩
theorem mv_m_readStatement : MV (mi_m_readStatement ) "GuardedMovesModel" 1 := ⟨kw_925, ks_47, kc_m_readStatement , kw_7, ⟨⟨(by show ("GuardedMovesModel" : String) ≠ "java/lang/invoke/MethodHandle"; decide), (by show ("GuardedMovesModel" : String) ≠ "java/lang/invoke/VarHandle"; decide)⟩, (by show (parseMethodDescriptor "(I)V").map (fun d => d.parameters.length) = some 1; decide +kernel)⟩⟩
def w_m_readStatement_326 (Q : Sg → Prop) (σ : Sg) : Prop := Q σ
theorem b_m_readStatement_326 {Δ : Ly} {G : Gm} {Q : Sg → Prop} (cx : Cx Δ G mi_m_readStatement) : ∀ (σ : Sg), w_m_readStatement_326 Q σ → Y Δ G mi_m_readStatement (qV Q) noE 0 0 σ 326 [] [] := by
  intro σ h
  unfold w_m_readStatement_326 at h
  exact y_vret cx (pc := 326) rfl d_m_readStatement_326 (le_b rfl) (le_b rfl) h
def w_m_readStatement_118 (Q : Sg → Prop) : Nat → Int32 → Int32 → Int32 → Sg → Prop
  | 0, _, _, _, _ => False
  | n + 1, v1, v3, v4, σ => (9 ≤ v4 → (vp_in ((9 * v3) + 7) 540 ∧ (vp_in v3 60 ∧ (vp_in v3 60 ∧ (w_m_isVariable v1 (up (up (up σ 62 (((9 * v3) + 7).toNatClampNeg) (σ 58 18)) 64 (v3.toNatClampNeg) (v3 + 1)) 65 (v3.toNatClampNeg) (v3 + 1)) (fun x1 σ2 => (x1 = 0 → ((¬ v1 = 64 → ((¬ v1 = 33 → (w_m_readTest v3 σ2 (fun σ3 => vp_in (σ3 58 18) 7 ∧ (vp_in (σ3 58 18) 7 ∧ (w_m_readStatement_326 Q (up (up (up σ3 68 ((σ3 58 18).toNatClampNeg) v3) 69 ((σ3 58 18).toNatClampNeg) 0) 58 18 ((σ3 58 18) + 1))))))) ∧ (v1 = 33 → (vp_in ((9 * v3) + 0) 540 ∧ (w_m_readValue v3 3 (up (up σ2 58 5 ((σ2 58 5) + 1)) 62 (((9 * v3) + 0).toNatClampNeg) 4) (fun σ4 => w_m_take 59 σ4 (fun σ5 => w_m_readStatement_326 Q σ5))))))) ∧ (v1 = 64 → (vp_in ((9 * v3) + 0) 540 ∧ (w_m_readValue v3 3 (up (up σ2 58 5 ((σ2 58 5) + 1)) 62 (((9 * v3) + 0).toNatClampNeg) 3) (fun σ6 => w_m_take 61 σ6 (fun σ7 => w_m_readValue v3 5 σ7 (fun σ8 => w_m_take 59 σ8 (fun σ9 => w_m_readStatement_326 Q σ9))))))))) ∧ (¬ x1 = 0 → (w_m_readSet v3 σ2 (fun σ10 => w_m_readStatement_326 Q σ10))))))))) ∧ (¬ 9 ≤ v4 → (vp_in ((9 * v3) + v4) 540 ∧ (∀ x11 : Int32, x11 = v4 + 1 → ((w_m_readStatement_118 Q n) v1 v3 x11 (up σ 62 (((9 * v3) + v4).toNatClampNeg) 0)))))
theorem b_m_readStatement_118 {Δ : Ly} {G : Gm} {Q : Sg → Prop} (cx : Cx Δ G mi_m_readStatement) : ∀ (n : Nat) (v1 : Int32) (v3 : Int32) (v4 : Int32) (σ : Sg), w_m_readStatement_118 Q n v1 v3 v4 σ → Y Δ G mi_m_readStatement (qV Q) noE 0 0 σ 118 [(0, .ref (Δ.1 58)), (1, .int v1), (3, .int v3), (4, .int v4)] [] := by
  intro n
  induction n with
  | zero => intro v1 v3 v4 σ h; exact h.elim
  | succ n ih =>
    intro v1 v3 v4 σ h
    unfold w_m_readStatement_118 at h
    refine y_iload cx (pc := 118) d_m_readStatement_118 3 rfl ?_
    refine y_bipush cx (pc := 120) bp_9 d_m_readStatement_120 ?_
    refine y_icmp_ge cx (pc := 122) (tgt := 144) d_m_readStatement_122 (by decide) (fun hc => ?_) (fun hc => ?_)
    · replace h := h.1 hc
      refine y_aload_n cx (pc := 144) d_m_readStatement_144 rfl 0 rfl ?_
      refine y_get cx (pc := 145) (j := 10) (v := .ref (Δ.1 62)) (le_b rfl) ck_Md kw_758 (le_b rfl) (gf_58_10 Δ _) d_m_readStatement_145 ?_
      refine y_bipush cx (pc := 148) bp_9 d_m_readStatement_148 ?_
      refine y_iload_n cx (pc := 150) d_m_readStatement_150 rfl 2 rfl ?_
      refine y_imul cx (pc := 151) d_m_readStatement_151 ?_
      refine y_bipush cx (pc := 152) bp_7 d_m_readStatement_152 ?_
      refine y_iadd cx (pc := 154) d_m_readStatement_154 ?_
      refine y_aload_n cx (pc := 155) d_m_readStatement_155 rfl 0 rfl ?_
      refine y_get cx (pc := 156) (j := 18) (v := .int (σ 58 18)) (le_b rfl) ck_Md kw_766 (le_b rfl) (gf_58_18 Δ _) d_m_readStatement_156 ?_
      obtain ⟨h0, h⟩ := h
      refine y_iast cx (pc := 159) ⟨(le_b rfl), fun _ => rfl⟩ h0 d_m_readStatement_159 ?_
      refine y_aload_n cx (pc := 160) d_m_readStatement_160 rfl 0 rfl ?_
      refine y_get cx (pc := 161) (j := 12) (v := .ref (Δ.1 64)) (le_b rfl) ck_Md kw_760 (le_b rfl) (gf_58_12 Δ _) d_m_readStatement_161 ?_
      refine y_iload_n cx (pc := 164) d_m_readStatement_164 rfl 2 rfl ?_
      refine y_iload_n cx (pc := 165) d_m_readStatement_165 rfl 2 rfl ?_
      refine y_iconst cx (pc := 166) ic_1 d_m_readStatement_166 ?_
      refine y_iadd cx (pc := 167) d_m_readStatement_167 ?_
      obtain ⟨h0, h⟩ := h
      refine y_iast cx (pc := 168) ⟨(le_b rfl), fun _ => rfl⟩ h0 d_m_readStatement_168 ?_
      refine y_aload_n cx (pc := 169) d_m_readStatement_169 rfl 0 rfl ?_
      refine y_get cx (pc := 170) (j := 13) (v := .ref (Δ.1 65)) (le_b rfl) ck_Md kw_761 (le_b rfl) (gf_58_13 Δ _) d_m_readStatement_170 ?_
      refine y_iload_n cx (pc := 173) d_m_readStatement_173 rfl 2 rfl ?_
      refine y_iload_n cx (pc := 174) d_m_readStatement_174 rfl 2 rfl ?_
      refine y_iconst cx (pc := 175) ic_1 d_m_readStatement_175 ?_
      refine y_iadd cx (pc := 176) d_m_readStatement_176 ?_
      obtain ⟨h0, h⟩ := h
      refine y_iast cx (pc := 177) ⟨(le_b rfl), fun _ => rfl⟩ h0 d_m_readStatement_177 ?_
      refine y_iload_n cx (pc := 178) d_m_readStatement_178 rfl 1 rfl ?_
      refine y_sI cx (pc := 179) (st := []) [.int v1] (c_m_isVariable cx.fl Δ v1 _ _ h) mv_m_isVariable kw_927 rfl (le_b rfl) (le_b rfl) (le_b rfl) (le_b rfl) (le_b rfl) d_m_readStatement_179 (fun x1 σ2 h => ?_) (fun x σ2 h => yt_no h)
      refine y_if_eq cx (pc := 182) (tgt := 193) d_m_readStatement_182 (by decide) (fun hc => ?_) (fun hc => ?_)
      · replace h := h.1 hc
        refine y_iload_n cx (pc := 193) d_m_readStatement_193 rfl 1 rfl ?_
        refine y_bipush cx (pc := 194) bp_64 d_m_readStatement_194 ?_
        refine y_icmp_ne cx (pc := 196) (tgt := 248) d_m_readStatement_196 (by decide) (fun hc => ?_) (fun hc => ?_)
        · replace h := h.1 hc
          refine y_iload_n cx (pc := 248) d_m_readStatement_248 rfl 1 rfl ?_
          refine y_bipush cx (pc := 249) bp_33 d_m_readStatement_249 ?_
          refine y_icmp_ne cx (pc := 251) (tgt := 291) d_m_readStatement_251 (by decide) (fun hc => ?_) (fun hc => ?_)
          · replace h := h.1 hc
            refine y_aload_n cx (pc := 291) d_m_readStatement_291 rfl 0 rfl ?_
            refine y_iload_n cx (pc := 292) d_m_readStatement_292 rfl 2 rfl ?_
            refine y_vV cx (pc := 293) (st := []) [.int v3] (c_m_readTest cx.fl Δ v3 _ _ h) mv_m_readTest kw_960 (oc_58 Δ) ck_Md rfl (le_b rfl) (le_b rfl) (le_b rfl) (le_b rfl) (le_b rfl) d_m_readStatement_293 (fun σ3 h => ?_) (fun x σ3 h => yt_no h)
            refine y_aload_n cx (pc := 296) d_m_readStatement_296 rfl 0 rfl ?_
            refine y_get cx (pc := 297) (j := 16) (v := .ref (Δ.1 68)) (le_b rfl) ck_Md kw_764 (le_b rfl) (gf_58_16 Δ _) d_m_readStatement_297 ?_
            refine y_aload_n cx (pc := 300) d_m_readStatement_300 rfl 0 rfl ?_
            refine y_get cx (pc := 301) (j := 18) (v := .int (σ3 58 18)) (le_b rfl) ck_Md kw_766 (le_b rfl) (gf_58_18 Δ _) d_m_readStatement_301 ?_
            refine y_iload_n cx (pc := 304) d_m_readStatement_304 rfl 2 rfl ?_
            obtain ⟨h0, h⟩ := h
            refine y_iast cx (pc := 305) ⟨(le_b rfl), fun _ => rfl⟩ h0 d_m_readStatement_305 ?_
            refine y_aload_n cx (pc := 306) d_m_readStatement_306 rfl 0 rfl ?_
            refine y_get cx (pc := 307) (j := 17) (v := .ref (Δ.1 69)) (le_b rfl) ck_Md kw_765 (le_b rfl) (gf_58_17 Δ _) d_m_readStatement_307 ?_
            refine y_aload_n cx (pc := 310) d_m_readStatement_310 rfl 0 rfl ?_
            refine y_get cx (pc := 311) (j := 18) (v := .int (σ3 58 18)) (le_b rfl) ck_Md kw_766 (le_b rfl) (gf_58_18 Δ _) d_m_readStatement_311 ?_
            refine y_iconst cx (pc := 314) ic_0 d_m_readStatement_314 ?_
            obtain ⟨h0, h⟩ := h
            refine y_zastB cx (pc := 315) ⟨(le_b rfl), fun _ => rfl⟩ h0 bz_0 d_m_readStatement_315 ?_
            refine y_aload_n cx (pc := 316) d_m_readStatement_316 rfl 0 rfl ?_
            refine y_dup cx (pc := 317) rfl d_m_readStatement_317 ?_
            refine y_get cx (pc := 318) (j := 18) (v := .int (σ3 58 18)) (le_b rfl) ck_Md kw_766 (le_b rfl) (gf_58_18 Δ _) d_m_readStatement_318 ?_
            refine y_iconst cx (pc := 321) ic_1 d_m_readStatement_321 ?_
            refine y_iadd cx (pc := 322) d_m_readStatement_322 ?_
            refine y_put cx (pc := 323) (j := 18) (ty := .int) (le_b rfl) ck_Md kw_766 (le_b rfl) rfl (t_Md_ok 18 (le_b rfl)) rfl rfl (pf_58_18 Δ) d_m_readStatement_323 ?_
            refine y_sub [] rfl ?_
            exact b_m_readStatement_326 cx (up (up (up σ3 68 ((σ3 58 18).toNatClampNeg) v3) 69 ((σ3 58 18).toNatClampNeg) 0) 58 18 ((σ3 58 18) + 1)) h
          · replace h := h.2 hc
            refine y_aload_n cx (pc := 254) d_m_readStatement_254 rfl 0 rfl ?_
            refine y_dup cx (pc := 255) rfl d_m_readStatement_255 ?_
            refine y_get cx (pc := 256) (j := 5) (v := .int (σ2 58 5)) (le_b rfl) ck_Md kw_753 (le_b rfl) (gf_58_5 Δ _) d_m_readStatement_256 ?_
            refine y_iconst cx (pc := 259) ic_1 d_m_readStatement_259 ?_
            refine y_iadd cx (pc := 260) d_m_readStatement_260 ?_
            refine y_put cx (pc := 261) (j := 5) (ty := .int) (le_b rfl) ck_Md kw_753 (le_b rfl) rfl (t_Md_ok 5 (le_b rfl)) rfl rfl (pf_58_5 Δ) d_m_readStatement_261 ?_
            refine y_aload_n cx (pc := 264) d_m_readStatement_264 rfl 0 rfl ?_
            refine y_get cx (pc := 265) (j := 10) (v := .ref (Δ.1 62)) (le_b rfl) ck_Md kw_758 (le_b rfl) (gf_58_10 Δ _) d_m_readStatement_265 ?_
            refine y_bipush cx (pc := 268) bp_9 d_m_readStatement_268 ?_
            refine y_iload_n cx (pc := 270) d_m_readStatement_270 rfl 2 rfl ?_
            refine y_imul cx (pc := 271) d_m_readStatement_271 ?_
            refine y_iconst cx (pc := 272) ic_0 d_m_readStatement_272 ?_
            refine y_iadd cx (pc := 273) d_m_readStatement_273 ?_
            refine y_iconst cx (pc := 274) ic_4 d_m_readStatement_274 ?_
            obtain ⟨h0, h⟩ := h
            refine y_iast cx (pc := 275) ⟨(le_b rfl), fun _ => rfl⟩ h0 d_m_readStatement_275 ?_
            refine y_aload_n cx (pc := 276) d_m_readStatement_276 rfl 0 rfl ?_
            refine y_iload_n cx (pc := 277) d_m_readStatement_277 rfl 2 rfl ?_
            refine y_iconst cx (pc := 278) ic_3 d_m_readStatement_278 ?_
            refine y_vV cx (pc := 279) (st := []) [.int v3, .int 3] (c_m_readValue cx.fl Δ v3 3 _ _ h) mv_m_readValue kw_942 (oc_58 Δ) ck_Md rfl (le_b rfl) (le_b rfl) (le_b rfl) (le_b rfl) (le_b rfl) d_m_readStatement_279 (fun σ4 h => ?_) (fun x σ4 h => yt_no h)
            refine y_aload_n cx (pc := 282) d_m_readStatement_282 rfl 0 rfl ?_
            refine y_bipush cx (pc := 283) bp_59 d_m_readStatement_283 ?_
            refine y_vV cx (pc := 285) (st := []) [.int 59] (c_m_take cx.fl Δ 59 _ _ h) mv_m_take kw_938 (oc_58 Δ) ck_Md rfl (le_b rfl) (le_b rfl) (le_b rfl) (le_b rfl) (le_b rfl) d_m_readStatement_285 (fun σ5 h => ?_) (fun x σ5 h => yt_no h)
            refine y_goto cx (pc := 288) (tgt := 326) d_m_readStatement_288 (by decide) ?_
            refine y_sub [] rfl ?_
            exact b_m_readStatement_326 cx σ5 h
        · replace h := h.2 hc
          refine y_aload_n cx (pc := 199) d_m_readStatement_199 rfl 0 rfl ?_
          refine y_dup cx (pc := 200) rfl d_m_readStatement_200 ?_
          refine y_get cx (pc := 201) (j := 5) (v := .int (σ2 58 5)) (le_b rfl) ck_Md kw_753 (le_b rfl) (gf_58_5 Δ _) d_m_readStatement_201 ?_
          refine y_iconst cx (pc := 204) ic_1 d_m_readStatement_204 ?_
          refine y_iadd cx (pc := 205) d_m_readStatement_205 ?_
          refine y_put cx (pc := 206) (j := 5) (ty := .int) (le_b rfl) ck_Md kw_753 (le_b rfl) rfl (t_Md_ok 5 (le_b rfl)) rfl rfl (pf_58_5 Δ) d_m_readStatement_206 ?_
          refine y_aload_n cx (pc := 209) d_m_readStatement_209 rfl 0 rfl ?_
          refine y_get cx (pc := 210) (j := 10) (v := .ref (Δ.1 62)) (le_b rfl) ck_Md kw_758 (le_b rfl) (gf_58_10 Δ _) d_m_readStatement_210 ?_
          refine y_bipush cx (pc := 213) bp_9 d_m_readStatement_213 ?_
          refine y_iload_n cx (pc := 215) d_m_readStatement_215 rfl 2 rfl ?_
          refine y_imul cx (pc := 216) d_m_readStatement_216 ?_
          refine y_iconst cx (pc := 217) ic_0 d_m_readStatement_217 ?_
          refine y_iadd cx (pc := 218) d_m_readStatement_218 ?_
          refine y_iconst cx (pc := 219) ic_3 d_m_readStatement_219 ?_
          obtain ⟨h0, h⟩ := h
          refine y_iast cx (pc := 220) ⟨(le_b rfl), fun _ => rfl⟩ h0 d_m_readStatement_220 ?_
          refine y_aload_n cx (pc := 221) d_m_readStatement_221 rfl 0 rfl ?_
          refine y_iload_n cx (pc := 222) d_m_readStatement_222 rfl 2 rfl ?_
          refine y_iconst cx (pc := 223) ic_3 d_m_readStatement_223 ?_
          refine y_vV cx (pc := 224) (st := []) [.int v3, .int 3] (c_m_readValue cx.fl Δ v3 3 _ _ h) mv_m_readValue kw_942 (oc_58 Δ) ck_Md rfl (le_b rfl) (le_b rfl) (le_b rfl) (le_b rfl) (le_b rfl) d_m_readStatement_224 (fun σ6 h => ?_) (fun x σ6 h => yt_no h)
          refine y_aload_n cx (pc := 227) d_m_readStatement_227 rfl 0 rfl ?_
          refine y_bipush cx (pc := 228) bp_61 d_m_readStatement_228 ?_
          refine y_vV cx (pc := 230) (st := []) [.int 61] (c_m_take cx.fl Δ 61 _ _ h) mv_m_take kw_938 (oc_58 Δ) ck_Md rfl (le_b rfl) (le_b rfl) (le_b rfl) (le_b rfl) (le_b rfl) d_m_readStatement_230 (fun σ7 h => ?_) (fun x σ7 h => yt_no h)
          refine y_aload_n cx (pc := 233) d_m_readStatement_233 rfl 0 rfl ?_
          refine y_iload_n cx (pc := 234) d_m_readStatement_234 rfl 2 rfl ?_
          refine y_iconst cx (pc := 235) ic_5 d_m_readStatement_235 ?_
          refine y_vV cx (pc := 236) (st := []) [.int v3, .int 5] (c_m_readValue cx.fl Δ v3 5 _ _ h) mv_m_readValue kw_942 (oc_58 Δ) ck_Md rfl (le_b rfl) (le_b rfl) (le_b rfl) (le_b rfl) (le_b rfl) d_m_readStatement_236 (fun σ8 h => ?_) (fun x σ8 h => yt_no h)
          refine y_aload_n cx (pc := 239) d_m_readStatement_239 rfl 0 rfl ?_
          refine y_bipush cx (pc := 240) bp_59 d_m_readStatement_240 ?_
          refine y_vV cx (pc := 242) (st := []) [.int 59] (c_m_take cx.fl Δ 59 _ _ h) mv_m_take kw_938 (oc_58 Δ) ck_Md rfl (le_b rfl) (le_b rfl) (le_b rfl) (le_b rfl) (le_b rfl) d_m_readStatement_242 (fun σ9 h => ?_) (fun x σ9 h => yt_no h)
          refine y_goto cx (pc := 245) (tgt := 326) d_m_readStatement_245 (by decide) ?_
          refine y_sub [] rfl ?_
          exact b_m_readStatement_326 cx σ9 h
      · replace h := h.2 hc
        refine y_aload_n cx (pc := 185) d_m_readStatement_185 rfl 0 rfl ?_
        refine y_iload_n cx (pc := 186) d_m_readStatement_186 rfl 2 rfl ?_
        refine y_vV cx (pc := 187) (st := []) [.int v3] (c_m_readSet cx.fl Δ v3 _ _ h) mv_m_readSet kw_934 (oc_58 Δ) ck_Md rfl (le_b rfl) (le_b rfl) (le_b rfl) (le_b rfl) (le_b rfl) d_m_readStatement_187 (fun σ10 h => ?_) (fun x σ10 h => yt_no h)
        refine y_goto cx (pc := 190) (tgt := 326) d_m_readStatement_190 (by decide) ?_
        refine y_sub [] rfl ?_
        exact b_m_readStatement_326 cx σ10 h
    · replace h := h.2 hc
      refine y_aload_n cx (pc := 125) d_m_readStatement_125 rfl 0 rfl ?_
      refine y_get cx (pc := 126) (j := 10) (v := .ref (Δ.1 62)) (le_b rfl) ck_Md kw_758 (le_b rfl) (gf_58_10 Δ _) d_m_readStatement_126 ?_
      refine y_bipush cx (pc := 129) bp_9 d_m_readStatement_129 ?_
      refine y_iload_n cx (pc := 131) d_m_readStatement_131 rfl 2 rfl ?_
      refine y_imul cx (pc := 132) d_m_readStatement_132 ?_
      refine y_iload cx (pc := 133) d_m_readStatement_133 3 rfl ?_
      refine y_iadd cx (pc := 135) d_m_readStatement_135 ?_
      refine y_iconst cx (pc := 136) ic_0 d_m_readStatement_136 ?_
      obtain ⟨h0, h⟩ := h
      refine y_iast cx (pc := 137) ⟨(le_b rfl), fun _ => rfl⟩ h0 d_m_readStatement_137 ?_
      obtain ⟨x11, ex11⟩ : ∃ y : Int32, y = v4 + 1 := ⟨_, rfl⟩
      replace h := h x11 ex11
      refine y_iinc (v := x11) (lv' := [(4, .int x11), (0, .ref (Δ.1 58)), (1, .int v1), (3, .int v3)]) cx (pc := 138) d_m_readStatement_138 (j := 3) rfl (by rw [ex11]; rfl) (le_b rfl) rfl ?_
      refine y_goto cx (pc := 141) (tgt := 118) d_m_readStatement_141 (by decide) ?_
      refine y_sub [1, 2, 3, 0] rfl ?_
      exact ih v1 v3 x11 (up σ 62 (((9 * v3) + v4).toNatClampNeg) 0) h
def w_m_readStatement_92 (Q : Sg → Prop) (v1 : Int32) (σ : Sg) : Prop := ((σ 58 6) ≤ 0 → (∀ x1 : Int32, x1 = σ 58 8 → (∃ q118, w_m_readStatement_118 Q q118 v1 x1 0 (up σ 58 8 ((σ 58 8) + 1))))) ∧ (¬ (σ 58 6) ≤ 0 → (Q σ))
theorem b_m_readStatement_92 {Δ : Ly} {G : Gm} {Q : Sg → Prop} (cx : Cx Δ G mi_m_readStatement) : ∀ (v1 : Int32) (σ : Sg), w_m_readStatement_92 Q v1 σ → Y Δ G mi_m_readStatement (qV Q) noE 0 0 σ 92 [(0, .ref (Δ.1 58)), (1, .int v1)] [] := by
  intro v1 σ h
  unfold w_m_readStatement_92 at h
  refine y_aload_n cx (pc := 92) d_m_readStatement_92 rfl 0 rfl ?_
  refine y_get cx (pc := 93) (j := 6) (v := .int (σ 58 6)) (le_b rfl) ck_Md kw_754 (le_b rfl) (gf_58_6 Δ _) d_m_readStatement_93 ?_
  refine y_if_le cx (pc := 96) (tgt := 100) d_m_readStatement_96 (by decide) (fun hc => ?_) (fun hc => ?_)
  · replace h := h.1 hc
    refine y_aload_n cx (pc := 100) d_m_readStatement_100 rfl 0 rfl ?_
    refine y_get cx (pc := 101) (j := 8) (v := .int (σ 58 8)) (le_b rfl) ck_Md kw_756 (le_b rfl) (gf_58_8 Δ _) d_m_readStatement_101 ?_
    refine y_topi (fun x1 ex1 => ?_)
    replace h := h x1 ex1
    refine y_istore_n (lv' := [(3, .int x1), (0, .ref (Δ.1 58)), (1, .int v1)]) cx (pc := 104) d_m_readStatement_104 rfl (le_b rfl) rfl ?_
    refine y_aload_n cx (pc := 105) d_m_readStatement_105 rfl 1 rfl ?_
    refine y_dup cx (pc := 106) rfl d_m_readStatement_106 ?_
    refine y_get cx (pc := 107) (j := 8) (v := .int (σ 58 8)) (le_b rfl) ck_Md kw_756 (le_b rfl) (gf_58_8 Δ _) d_m_readStatement_107 ?_
    refine y_iconst cx (pc := 110) ic_1 d_m_readStatement_110 ?_
    refine y_iadd cx (pc := 111) d_m_readStatement_111 ?_
    refine y_put cx (pc := 112) (j := 8) (ty := .int) (le_b rfl) ck_Md kw_756 (le_b rfl) rfl (t_Md_ok 8 (le_b rfl)) rfl rfl (pf_58_8 Δ) d_m_readStatement_112 ?_
    refine y_iconst cx (pc := 115) ic_0 d_m_readStatement_115 ?_
    refine y_istore (lv' := [(4, .int 0), (3, .int x1), (0, .ref (Δ.1 58)), (1, .int v1)]) cx (pc := 116) d_m_readStatement_116 (le_b rfl) rfl ?_
    refine y_sub [2, 3, 1, 0] rfl ?_
    obtain ⟨n, h⟩ := h
    exact b_m_readStatement_118 cx n v1 x1 0 (up σ 58 8 ((σ 58 8) + 1)) h
  · replace h := h.2 hc
    exact y_vret cx (pc := 99) rfl d_m_readStatement_99 (le_b rfl) (le_b rfl) h
def w_m_readStatement_30 (Q : Sg → Prop) (v1 : Int32) (s0 : Int32) (σ : Sg) : Prop := (¬ s0 = 0 → ((¬ (σ 58 8) = 60 → ((¬ v1 = 63 → (w_m_readStatement_92 Q v1 σ)) ∧ (v1 = 63 → ((¬ (σ 58 18) = 6 → (w_m_readStatement_92 Q v1 σ)) ∧ ((σ 58 18) = 6 → (w_m_fail 4 (σ 58 5) σ (fun σ1 => w_m_readStatement_92 Q v1 σ1))))))) ∧ ((σ 58 8) = 60 → (w_m_fail 3 (σ 58 5) σ (fun σ2 => w_m_readStatement_92 Q v1 σ2))))) ∧ (s0 = 0 → (w_m_fail 1 (σ 58 5) σ (fun σ3 => w_m_readStatement_92 Q v1 σ3)))
theorem b_m_readStatement_30 {Δ : Ly} {G : Gm} {Q : Sg → Prop} (cx : Cx Δ G mi_m_readStatement) : ∀ (v1 : Int32) (s0 : Int32) (σ : Sg), w_m_readStatement_30 Q v1 s0 σ → Y Δ G mi_m_readStatement (qV Q) noE 0 0 σ 30 [(0, .ref (Δ.1 58)), (1, .int v1)] [.int s0] := by
  intro v1 s0 σ h
  unfold w_m_readStatement_30 at h
  refine y_istore_n (lv' := [(2, .int s0), (0, .ref (Δ.1 58)), (1, .int v1)]) cx (pc := 30) d_m_readStatement_30 rfl (le_b rfl) rfl ?_
  refine y_iload_n cx (pc := 31) d_m_readStatement_31 rfl 0 rfl ?_
  refine y_if_ne cx (pc := 32) (tgt := 47) d_m_readStatement_32 (by decide) (fun hc => ?_) (fun hc => ?_)
  · replace h := h.1 hc
    refine y_aload_n cx (pc := 47) d_m_readStatement_47 rfl 1 rfl ?_
    refine y_get cx (pc := 48) (j := 8) (v := .int (σ 58 8)) (le_b rfl) ck_Md kw_756 (le_b rfl) (gf_58_8 Δ _) d_m_readStatement_48 ?_
    refine y_bipush cx (pc := 51) bp_60 d_m_readStatement_51 ?_
    refine y_icmp_ne cx (pc := 53) (tgt := 68) d_m_readStatement_53 (by decide) (fun hc => ?_) (fun hc => ?_)
    · replace h := h.1 hc
      refine y_iload_n cx (pc := 68) d_m_readStatement_68 rfl 2 rfl ?_
      refine y_bipush cx (pc := 69) bp_63 d_m_readStatement_69 ?_
      refine y_icmp_ne cx (pc := 71) (tgt := 92) d_m_readStatement_71 (by decide) (fun hc => ?_) (fun hc => ?_)
      · replace h := h.1 hc
        refine y_sub [1, 2] rfl ?_
        exact b_m_readStatement_92 cx v1 σ h
      · replace h := h.2 hc
        refine y_aload_n cx (pc := 74) d_m_readStatement_74 rfl 1 rfl ?_
        refine y_get cx (pc := 75) (j := 18) (v := .int (σ 58 18)) (le_b rfl) ck_Md kw_766 (le_b rfl) (gf_58_18 Δ _) d_m_readStatement_75 ?_
        refine y_bipush cx (pc := 78) bp_6 d_m_readStatement_78 ?_
        refine y_icmp_ne cx (pc := 80) (tgt := 92) d_m_readStatement_80 (by decide) (fun hc => ?_) (fun hc => ?_)
        · replace h := h.1 hc
          refine y_sub [1, 2] rfl ?_
          exact b_m_readStatement_92 cx v1 σ h
        · replace h := h.2 hc
          refine y_aload_n cx (pc := 83) d_m_readStatement_83 rfl 1 rfl ?_
          refine y_iconst cx (pc := 84) ic_4 d_m_readStatement_84 ?_
          refine y_aload_n cx (pc := 85) d_m_readStatement_85 rfl 1 rfl ?_
          refine y_get cx (pc := 86) (j := 5) (v := .int (σ 58 5)) (le_b rfl) ck_Md kw_753 (le_b rfl) (gf_58_5 Δ _) d_m_readStatement_86 ?_
          refine y_vV cx (pc := 89) (st := []) [.int 4, .int (σ 58 5)] (c_m_fail cx.fl Δ 4 (σ 58 5) _ _ h) mv_m_fail kw_930 (oc_58 Δ) ck_Md rfl (le_b rfl) (le_b rfl) (le_b rfl) (le_b rfl) (le_b rfl) d_m_readStatement_89 (fun σ1 h => ?_) (fun x σ1 h => yt_no h)
          refine y_sub [1, 2] rfl ?_
          exact b_m_readStatement_92 cx v1 σ1 h
    · replace h := h.2 hc
      refine y_aload_n cx (pc := 56) d_m_readStatement_56 rfl 1 rfl ?_
      refine y_iconst cx (pc := 57) ic_3 d_m_readStatement_57 ?_
      refine y_aload_n cx (pc := 58) d_m_readStatement_58 rfl 1 rfl ?_
      refine y_get cx (pc := 59) (j := 5) (v := .int (σ 58 5)) (le_b rfl) ck_Md kw_753 (le_b rfl) (gf_58_5 Δ _) d_m_readStatement_59 ?_
      refine y_vV cx (pc := 62) (st := []) [.int 3, .int (σ 58 5)] (c_m_fail cx.fl Δ 3 (σ 58 5) _ _ h) mv_m_fail kw_930 (oc_58 Δ) ck_Md rfl (le_b rfl) (le_b rfl) (le_b rfl) (le_b rfl) (le_b rfl) d_m_readStatement_62 (fun σ2 h => ?_) (fun x σ2 h => yt_no h)
      refine y_goto cx (pc := 65) (tgt := 92) d_m_readStatement_65 (by decide) ?_
      refine y_sub [1, 2] rfl ?_
      exact b_m_readStatement_92 cx v1 σ2 h
  · replace h := h.2 hc
    refine y_aload_n cx (pc := 35) d_m_readStatement_35 rfl 1 rfl ?_
    refine y_iconst cx (pc := 36) ic_1 d_m_readStatement_36 ?_
    refine y_aload_n cx (pc := 37) d_m_readStatement_37 rfl 1 rfl ?_
    refine y_get cx (pc := 38) (j := 5) (v := .int (σ 58 5)) (le_b rfl) ck_Md kw_753 (le_b rfl) (gf_58_5 Δ _) d_m_readStatement_38 ?_
    refine y_vV cx (pc := 41) (st := []) [.int 1, .int (σ 58 5)] (c_m_fail cx.fl Δ 1 (σ 58 5) _ _ h) mv_m_fail kw_930 (oc_58 Δ) ck_Md rfl (le_b rfl) (le_b rfl) (le_b rfl) (le_b rfl) (le_b rfl) d_m_readStatement_41 (fun σ3 h => ?_) (fun x σ3 h => yt_no h)
    refine y_goto cx (pc := 44) (tgt := 92) d_m_readStatement_44 (by decide) ?_
    refine y_sub [1, 2] rfl ?_
    exact b_m_readStatement_92 cx v1 σ3 h
def w_m_readStatement_25 (Q : Sg → Prop) (v1 : Int32) (σ : Sg) : Prop := w_m_readStatement_30 Q v1 1 σ
theorem b_m_readStatement_25 {Δ : Ly} {G : Gm} {Q : Sg → Prop} (cx : Cx Δ G mi_m_readStatement) : ∀ (v1 : Int32) (σ : Sg), w_m_readStatement_25 Q v1 σ → Y Δ G mi_m_readStatement (qV Q) noE 0 0 σ 25 [(0, .ref (Δ.1 58)), (1, .int v1)] [] := by
  intro v1 σ h
  unfold w_m_readStatement_25 at h
  refine y_iconst cx (pc := 25) ic_1 d_m_readStatement_25 ?_
  refine y_goto cx (pc := 26) (tgt := 30) d_m_readStatement_26 (by decide) ?_
  exact b_m_readStatement_30 cx v1 1 σ h
def w_m_readStatement (p1 : Int32) (σ : Sg) (Q : Sg → Prop) : Prop := w_m_isVariable p1 σ (fun x1 σ2 => (¬ x1 = 0 → (w_m_readStatement_25 Q p1 σ2)) ∧ (x1 = 0 → ((p1 = 64 → (w_m_readStatement_25 Q p1 σ2)) ∧ (¬ p1 = 64 → ((p1 = 33 → (w_m_readStatement_25 Q p1 σ2)) ∧ (¬ p1 = 33 → ((¬ p1 = 63 → (w_m_readStatement_30 Q p1 0 σ2)) ∧ (p1 = 63 → (w_m_readStatement_25 Q p1 σ2)))))))))
theorem b_m_readStatement {Δ : Ly} {G : Gm} {Q : Sg → Prop} (cx : Cx Δ G mi_m_readStatement) (p1 : Int32) (σ : Sg) (h : w_m_readStatement p1 σ Q) : Y Δ G mi_m_readStatement (qV Q) noE 0 0 σ 0 [(0, .ref (Δ.1 58)), (1, .int p1)] [] := by
  unfold w_m_readStatement at h
  refine y_iload_n cx (pc := 0) d_m_readStatement_0 rfl 1 rfl ?_
  refine y_sI cx (pc := 1) (st := []) [.int p1] (c_m_isVariable cx.fl Δ p1 _ _ h) mv_m_isVariable kw_927 rfl (le_b rfl) (le_b rfl) (le_b rfl) (le_b rfl) (le_b rfl) d_m_readStatement_1 (fun x1 σ2 h => ?_) (fun x σ2 h => yt_no h)
  refine y_if_ne cx (pc := 4) (tgt := 25) d_m_readStatement_4 (by decide) (fun hc => ?_) (fun hc => ?_)
  · replace h := h.1 hc
    exact b_m_readStatement_25 cx p1 σ2 h
  · replace h := h.2 hc
    refine y_iload_n cx (pc := 7) d_m_readStatement_7 rfl 1 rfl ?_
    refine y_bipush cx (pc := 8) bp_64 d_m_readStatement_8 ?_
    refine y_icmp_eq cx (pc := 10) (tgt := 25) d_m_readStatement_10 (by decide) (fun hc => ?_) (fun hc => ?_)
    · replace h := h.1 hc
      exact b_m_readStatement_25 cx p1 σ2 h
    · replace h := h.2 hc
      refine y_iload_n cx (pc := 13) d_m_readStatement_13 rfl 1 rfl ?_
      refine y_bipush cx (pc := 14) bp_33 d_m_readStatement_14 ?_
      refine y_icmp_eq cx (pc := 16) (tgt := 25) d_m_readStatement_16 (by decide) (fun hc => ?_) (fun hc => ?_)
      · replace h := h.1 hc
        exact b_m_readStatement_25 cx p1 σ2 h
      · replace h := h.2 hc
        refine y_iload_n cx (pc := 19) d_m_readStatement_19 rfl 1 rfl ?_
        refine y_bipush cx (pc := 20) bp_63 d_m_readStatement_20 ?_
        refine y_icmp_ne cx (pc := 22) (tgt := 29) d_m_readStatement_22 (by decide) (fun hc => ?_) (fun hc => ?_)
        · replace h := h.1 hc
          refine y_iconst cx (pc := 29) ic_0 d_m_readStatement_29 ?_
          exact b_m_readStatement_30 cx p1 0 σ2 h
        · replace h := h.2 hc
          exact b_m_readStatement_25 cx p1 σ2 h
theorem c_m_readStatement {l : Launch} (hfl : l.flags = flags0) (Δ : Ly) (p1 : Int32) (σ : Sg) (Q : Sg → Prop) (h : w_m_readStatement p1 σ Q) : Ct l Δ mi_m_readStatement [.ref (Δ.1 58), .int p1] σ (qV Q) noE :=
  Ct.of hfl (by show plainFor ⟨"GuardedMovesModel", "readStatement", "(I)V"⟩ = true; decide +kernel) rfl (le_b rfl) (fun G hl cx => b_m_readStatement cx p1 σ h)
def mi_m_read : Mi := ("GuardedMovesModel", prog_6_method_21_code, 3, [], (some .int), 5, 138, 0, 0, ⟨"GuardedMovesModel", "read", "()I"⟩)
theorem d_m_read_0 : decode prog_6_method_21_code 0 = .ok (.aload_n 0, 1) := by decide +kernel
theorem d_m_read_1 : decode prog_6_method_21_code 1 = .ok (.iconst 0, 1) := by decide +kernel
theorem d_m_read_2 : decode prog_6_method_21_code 2 = .ok (.putfield 102, 3) := by decide +kernel
theorem d_m_read_5 : decode prog_6_method_21_code 5 = .ok (.aload_n 0, 1) := by decide +kernel
theorem d_m_read_6 : decode prog_6_method_21_code 6 = .ok (.iconst 0, 1) := by decide +kernel
theorem d_m_read_7 : decode prog_6_method_21_code 7 = .ok (.putfield 124, 3) := by decide +kernel
theorem d_m_read_10 : decode prog_6_method_21_code 10 = .ok (.aload_n 0, 1) := by decide +kernel
theorem d_m_read_11 : decode prog_6_method_21_code 11 = .ok (.iconst 0, 1) := by decide +kernel
theorem d_m_read_12 : decode prog_6_method_21_code 12 = .ok (.putfield 130, 3) := by decide +kernel
theorem d_m_read_15 : decode prog_6_method_21_code 15 = .ok (.aload_n 0, 1) := by decide +kernel
theorem d_m_read_16 : decode prog_6_method_21_code 16 = .ok (.iconst 0, 1) := by decide +kernel
theorem d_m_read_17 : decode prog_6_method_21_code 17 = .ok (.putfield 174, 3) := by decide +kernel
theorem d_m_read_20 : decode prog_6_method_21_code 20 = .ok (.aload_n 0, 1) := by decide +kernel
theorem d_m_read_21 : decode prog_6_method_21_code 21 = .ok (.iconst 0, 1) := by decide +kernel
theorem d_m_read_22 : decode prog_6_method_21_code 22 = .ok (.putfield 177, 3) := by decide +kernel
theorem d_m_read_25 : decode prog_6_method_21_code 25 = .ok (.aload_n 0, 1) := by decide +kernel
theorem d_m_read_26 : decode prog_6_method_21_code 26 = .ok (.invokevirtual 133, 3) := by decide +kernel
theorem d_m_read_29 : decode prog_6_method_21_code 29 = .ok (.istore_n 1, 1) := by decide +kernel
theorem d_m_read_30 : decode prog_6_method_21_code 30 = .ok (.aload_n 0, 1) := by decide +kernel
theorem d_m_read_31 : decode prog_6_method_21_code 31 = .ok (.getfield 124, 3) := by decide +kernel
theorem d_m_read_34 : decode prog_6_method_21_code 34 = .ok (.ifCond .ne 59, 3) := by decide +kernel
theorem d_m_read_37 : decode prog_6_method_21_code 37 = .ok (.iload_n 1, 1) := by decide +kernel
theorem d_m_read_38 : decode prog_6_method_21_code 38 = .ok (.iconst (-1), 1) := by decide +kernel
theorem d_m_read_39 : decode prog_6_method_21_code 39 = .ok (.if_icmp .ne 10, 3) := by decide +kernel
theorem d_m_read_42 : decode prog_6_method_21_code 42 = .ok (.aload_n 0, 1) := by decide +kernel
theorem d_m_read_43 : decode prog_6_method_21_code 43 = .ok (.getfield 177, 3) := by decide +kernel
theorem d_m_read_46 : decode prog_6_method_21_code 46 = .ok (.ifCond .le 47, 3) := by decide +kernel
theorem d_m_read_49 : decode prog_6_method_21_code 49 = .ok (.iload_n 1, 1) := by decide +kernel
theorem d_m_read_50 : decode prog_6_method_21_code 50 = .ok (.bipush 125, 2) := by decide +kernel
theorem d_m_read_52 : decode prog_6_method_21_code 52 = .ok (.if_icmp .ne 17, 3) := by decide +kernel
theorem d_m_read_55 : decode prog_6_method_21_code 55 = .ok (.aload_n 0, 1) := by decide +kernel
theorem d_m_read_56 : decode prog_6_method_21_code 56 = .ok (.getfield 177, 3) := by decide +kernel
theorem d_m_read_59 : decode prog_6_method_21_code 59 = .ok (.ifCond .le 10, 3) := by decide +kernel
theorem d_m_read_62 : decode prog_6_method_21_code 62 = .ok (.aload_n 0, 1) := by decide +kernel
theorem d_m_read_63 : decode prog_6_method_21_code 63 = .ok (.invokevirtual 186, 3) := by decide +kernel
theorem d_m_read_66 : decode prog_6_method_21_code 66 = .ok (.goto 8, 3) := by decide +kernel
theorem d_m_read_69 : decode prog_6_method_21_code 69 = .ok (.aload_n 0, 1) := by decide +kernel
theorem d_m_read_70 : decode prog_6_method_21_code 70 = .ok (.iload_n 1, 1) := by decide +kernel
theorem d_m_read_71 : decode prog_6_method_21_code 71 = .ok (.invokevirtual 189, 3) := by decide +kernel
theorem d_m_read_74 : decode prog_6_method_21_code 74 = .ok (.aload_n 0, 1) := by decide +kernel
theorem d_m_read_75 : decode prog_6_method_21_code 75 = .ok (.getfield 124, 3) := by decide +kernel
theorem d_m_read_78 : decode prog_6_method_21_code 78 = .ok (.ifCond .le 7, 3) := by decide +kernel
theorem d_m_read_81 : decode prog_6_method_21_code 81 = .ok (.iconst (-1), 1) := by decide +kernel
theorem d_m_read_82 : decode prog_6_method_21_code 82 = .ok (.goto 7, 3) := by decide +kernel
theorem d_m_read_85 : decode prog_6_method_21_code 85 = .ok (.aload_n 0, 1) := by decide +kernel
theorem d_m_read_86 : decode prog_6_method_21_code 86 = .ok (.invokevirtual 133, 3) := by decide +kernel
theorem d_m_read_89 : decode prog_6_method_21_code 89 = .ok (.istore_n 1, 1) := by decide +kernel
theorem d_m_read_90 : decode prog_6_method_21_code 90 = .ok (.goto (-60), 3) := by decide +kernel
theorem d_m_read_93 : decode prog_6_method_21_code 93 = .ok (.aload_n 0, 1) := by decide +kernel
theorem d_m_read_94 : decode prog_6_method_21_code 94 = .ok (.iconst 0, 1) := by decide +kernel
theorem d_m_read_95 : decode prog_6_method_21_code 95 = .ok (.putfield 119, 3) := by decide +kernel
theorem d_m_read_98 : decode prog_6_method_21_code 98 = .ok (.aload_n 0, 1) := by decide +kernel
theorem d_m_read_99 : decode prog_6_method_21_code 99 = .ok (.getfield 124, 3) := by decide +kernel
theorem d_m_read_102 : decode prog_6_method_21_code 102 = .ok (.ifCond .le 10, 3) := by decide +kernel
theorem d_m_read_105 : decode prog_6_method_21_code 105 = .ok (.iconst (-1), 1) := by decide +kernel
theorem d_m_read_106 : decode prog_6_method_21_code 106 = .ok (.aload_n 0, 1) := by decide +kernel
theorem d_m_read_107 : decode prog_6_method_21_code 107 = .ok (.getfield 127, 3) := by decide +kernel
theorem d_m_read_110 : decode prog_6_method_21_code 110 = .ok (.isub, 1) := by decide +kernel
theorem d_m_read_111 : decode prog_6_method_21_code 111 = .ok (.ireturn, 1) := by decide +kernel
theorem d_m_read_112 : decode prog_6_method_21_code 112 = .ok (.aload_n 0, 1) := by decide +kernel
theorem d_m_read_113 : decode prog_6_method_21_code 113 = .ok (.aload_n 0, 1) := by decide +kernel
theorem d_m_read_114 : decode prog_6_method_21_code 114 = .ok (.getfield 174, 3) := by decide +kernel
theorem d_m_read_117 : decode prog_6_method_21_code 117 = .ok (.putfield 192, 3) := by decide +kernel
theorem d_m_read_120 : decode prog_6_method_21_code 120 = .ok (.iconst 0, 1) := by decide +kernel
theorem d_m_read_121 : decode prog_6_method_21_code 121 = .ok (.istore_n 2, 1) := by decide +kernel
theorem d_m_read_122 : decode prog_6_method_21_code 122 = .ok (.iload_n 2, 1) := by decide +kernel
theorem d_m_read_123 : decode prog_6_method_21_code 123 = .ok (.sipush 540, 3) := by decide +kernel
theorem d_m_read_126 : decode prog_6_method_21_code 126 = .ok (.if_icmp .ge 21, 3) := by decide +kernel
theorem d_m_read_129 : decode prog_6_method_21_code 129 = .ok (.aload_n 0, 1) := by decide +kernel
theorem d_m_read_130 : decode prog_6_method_21_code 130 = .ok (.getfield 22, 3) := by decide +kernel
theorem d_m_read_133 : decode prog_6_method_21_code 133 = .ok (.iload_n 2, 1) := by decide +kernel
theorem d_m_read_134 : decode prog_6_method_21_code 134 = .ok (.aload_n 0, 1) := by decide +kernel
theorem d_m_read_135 : decode prog_6_method_21_code 135 = .ok (.getfield 19, 3) := by decide +kernel
theorem d_m_read_138 : decode prog_6_method_21_code 138 = .ok (.iload_n 2, 1) := by decide +kernel
theorem d_m_read_139 : decode prog_6_method_21_code 139 = .ok (.iaload, 1) := by decide +kernel
theorem d_m_read_140 : decode prog_6_method_21_code 140 = .ok (.iastore, 1) := by decide +kernel
theorem d_m_read_141 : decode prog_6_method_21_code 141 = .ok (.iinc 2 1, 3) := by decide +kernel
theorem d_m_read_144 : decode prog_6_method_21_code 144 = .ok (.goto (-22), 3) := by decide +kernel
theorem d_m_read_147 : decode prog_6_method_21_code 147 = .ok (.iconst 0, 1) := by decide +kernel
theorem d_m_read_148 : decode prog_6_method_21_code 148 = .ok (.istore_n 2, 1) := by decide +kernel
theorem d_m_read_149 : decode prog_6_method_21_code 149 = .ok (.iload_n 2, 1) := by decide +kernel
theorem d_m_read_150 : decode prog_6_method_21_code 150 = .ok (.bipush 60, 2) := by decide +kernel
theorem d_m_read_152 : decode prog_6_method_21_code 152 = .ok (.if_icmp .ge 40, 3) := by decide +kernel
theorem d_m_read_155 : decode prog_6_method_21_code 155 = .ok (.aload_n 0, 1) := by decide +kernel
theorem d_m_read_156 : decode prog_6_method_21_code 156 = .ok (.getfield 31, 3) := by decide +kernel
theorem d_m_read_159 : decode prog_6_method_21_code 159 = .ok (.iload_n 2, 1) := by decide +kernel
theorem d_m_read_160 : decode prog_6_method_21_code 160 = .ok (.aload_n 0, 1) := by decide +kernel
theorem d_m_read_161 : decode prog_6_method_21_code 161 = .ok (.getfield 25, 3) := by decide +kernel
theorem d_m_read_164 : decode prog_6_method_21_code 164 = .ok (.iload_n 2, 1) := by decide +kernel
theorem d_m_read_165 : decode prog_6_method_21_code 165 = .ok (.iaload, 1) := by decide +kernel
theorem d_m_read_166 : decode prog_6_method_21_code 166 = .ok (.iastore, 1) := by decide +kernel
theorem d_m_read_167 : decode prog_6_method_21_code 167 = .ok (.aload_n 0, 1) := by decide +kernel
theorem d_m_read_168 : decode prog_6_method_21_code 168 = .ok (.getfield 34, 3) := by decide +kernel
theorem d_m_read_171 : decode prog_6_method_21_code 171 = .ok (.iload_n 2, 1) := by decide +kernel
theorem d_m_read_172 : decode prog_6_method_21_code 172 = .ok (.aload_n 0, 1) := by decide +kernel
theorem d_m_read_173 : decode prog_6_method_21_code 173 = .ok (.getfield 28, 3) := by decide +kernel
theorem d_m_read_176 : decode prog_6_method_21_code 176 = .ok (.iload_n 2, 1) := by decide +kernel
theorem d_m_read_177 : decode prog_6_method_21_code 177 = .ok (.iaload, 1) := by decide +kernel
theorem d_m_read_178 : decode prog_6_method_21_code 178 = .ok (.iastore, 1) := by decide +kernel
theorem d_m_read_179 : decode prog_6_method_21_code 179 = .ok (.aload_n 0, 1) := by decide +kernel
theorem d_m_read_180 : decode prog_6_method_21_code 180 = .ok (.getfield 51, 3) := by decide +kernel
theorem d_m_read_183 : decode prog_6_method_21_code 183 = .ok (.iload_n 2, 1) := by decide +kernel
theorem d_m_read_184 : decode prog_6_method_21_code 184 = .ok (.iconst 0, 1) := by decide +kernel
theorem d_m_read_185 : decode prog_6_method_21_code 185 = .ok (.bastore, 1) := by decide +kernel
theorem d_m_read_186 : decode prog_6_method_21_code 186 = .ok (.iinc 2 1, 3) := by decide +kernel
theorem d_m_read_189 : decode prog_6_method_21_code 189 = .ok (.goto (-40), 3) := by decide +kernel
theorem d_m_read_192 : decode prog_6_method_21_code 192 = .ok (.aload_n 0, 1) := by decide +kernel
theorem d_m_read_193 : decode prog_6_method_21_code 193 = .ok (.iconst 0, 1) := by decide +kernel
theorem d_m_read_194 : decode prog_6_method_21_code 194 = .ok (.putfield 195, 3) := by decide +kernel
theorem d_m_read_197 : decode prog_6_method_21_code 197 = .ok (.aload_n 0, 1) := by decide +kernel
theorem d_m_read_198 : decode prog_6_method_21_code 198 = .ok (.iconst 0, 1) := by decide +kernel
theorem d_m_read_199 : decode prog_6_method_21_code 199 = .ok (.putfield 199, 3) := by decide +kernel
theorem d_m_read_202 : decode prog_6_method_21_code 202 = .ok (.aload_n 0, 1) := by decide +kernel
theorem d_m_read_203 : decode prog_6_method_21_code 203 = .ok (.bipush 16, 2) := by decide +kernel
theorem d_m_read_205 : decode prog_6_method_21_code 205 = .ok (.putfield 47, 3) := by decide +kernel
theorem d_m_read_208 : decode prog_6_method_21_code 208 = .ok (.aload_n 0, 1) := by decide +kernel
theorem d_m_read_209 : decode prog_6_method_21_code 209 = .ok (.getfield 192, 3) := by decide +kernel
theorem d_m_read_212 : decode prog_6_method_21_code 212 = .ok (.ireturn, 1) := by decide +kernel
theorem kc_m_read : Kw (m_w (mi_m_read )) := ⟨(in_t4 (List.mem_of_getElem? (i := 194) rfl)), rfl⟩
theorem mv_m_read : MV (mi_m_read ) "GuardedMovesModel" 0 := ⟨kw_912, kw_913, kc_m_read , kw_7, ⟨⟨(by show ("GuardedMovesModel" : String) ≠ "java/lang/invoke/MethodHandle"; decide), (by show ("GuardedMovesModel" : String) ≠ "java/lang/invoke/VarHandle"; decide)⟩, (by show (parseMethodDescriptor "()I").map (fun d => d.parameters.length) = some 0; decide +kernel)⟩⟩
def w_m_read_149 (Q : Int32 → Sg → Prop) : Nat → Int32 → Sg → Prop
  | 0, _, _ => False
  | n + 1, v2, σ => (60 ≤ v2 → (Q (σ 58 9) (up (up (up σ 58 22 0) 58 20 0) 58 21 16))) ∧ (¬ 60 ≤ v2 → (vp_in v2 60 ∧ (vp_in v2 60 ∧ (vp_in v2 60 ∧ (vp_in v2 60 ∧ (vp_in v2 60 ∧ (∀ x1 : Int32, x1 = v2 + 1 → ((w_m_read_149 Q n) x1 (up (up (up σ 66 (v2.toNatClampNeg) (σ 64 (v2.toNatClampNeg))) 67 (v2.toNatClampNeg) (σ 65 (v2.toNatClampNeg))) 71 (v2.toNatClampNeg) 0)))))))))
theorem b_m_read_149 {Δ : Ly} {G : Gm} {Q : Int32 → Sg → Prop} (cx : Cx Δ G mi_m_read) : ∀ (n : Nat) (v2 : Int32) (σ : Sg), w_m_read_149 Q n v2 σ → Y Δ G mi_m_read (qI Q) noE 0 0 σ 149 [(0, .ref (Δ.1 58)), (2, .int v2)] [] := by
  intro n
  induction n with
  | zero => intro v2 σ h; exact h.elim
  | succ n ih =>
    intro v2 σ h
    unfold w_m_read_149 at h
    refine y_iload_n cx (pc := 149) d_m_read_149 rfl 1 rfl ?_
    refine y_bipush cx (pc := 150) bp_60 d_m_read_150 ?_
    refine y_icmp_ge cx (pc := 152) (tgt := 192) d_m_read_152 (by decide) (fun hc => ?_) (fun hc => ?_)
    · replace h := h.1 hc
      refine y_aload_n cx (pc := 192) d_m_read_192 rfl 0 rfl ?_
      refine y_iconst cx (pc := 193) ic_0 d_m_read_193 ?_
      refine y_put cx (pc := 194) (j := 22) (ty := .boolean) (le_b rfl) ck_Md kw_770 (le_b rfl) rfl (t_Md_ok 22 (le_b rfl)) (bz_nar bz_0) (bz_fit bz_0) (pf_58_22 Δ) d_m_read_194 ?_
      refine y_aload_n cx (pc := 197) d_m_read_197 rfl 0 rfl ?_
      refine y_iconst cx (pc := 198) ic_0 d_m_read_198 ?_
      refine y_put cx (pc := 199) (j := 20) (ty := .int) (le_b rfl) ck_Md kw_768 (le_b rfl) rfl (t_Md_ok 20 (le_b rfl)) rfl rfl (pf_58_20 Δ) d_m_read_199 ?_
      refine y_aload_n cx (pc := 202) d_m_read_202 rfl 0 rfl ?_
      refine y_bipush cx (pc := 203) bp_16 d_m_read_203 ?_
      refine y_put cx (pc := 205) (j := 21) (ty := .int) (le_b rfl) ck_Md kw_769 (le_b rfl) rfl (t_Md_ok 21 (le_b rfl)) rfl rfl (pf_58_21 Δ) d_m_read_205 ?_
      refine y_aload_n cx (pc := 208) d_m_read_208 rfl 0 rfl ?_
      refine y_get cx (pc := 209) (j := 9) (v := .int (σ 58 9)) (le_b rfl) ck_Md kw_757 (le_b rfl) (gf_58_9 Δ _) d_m_read_209 ?_
      exact y_iret cx (pc := 212) rfl d_m_read_212 (le_b rfl) (le_b rfl) h
    · replace h := h.2 hc
      refine y_aload_n cx (pc := 155) d_m_read_155 rfl 0 rfl ?_
      refine y_get cx (pc := 156) (j := 14) (v := .ref (Δ.1 66)) (le_b rfl) ck_Md kw_762 (le_b rfl) (gf_58_14 Δ _) d_m_read_156 ?_
      refine y_iload_n cx (pc := 159) d_m_read_159 rfl 1 rfl ?_
      refine y_aload_n cx (pc := 160) d_m_read_160 rfl 0 rfl ?_
      refine y_get cx (pc := 161) (j := 12) (v := .ref (Δ.1 64)) (le_b rfl) ck_Md kw_760 (le_b rfl) (gf_58_12 Δ _) d_m_read_161 ?_
      refine y_iload_n cx (pc := 164) d_m_read_164 rfl 1 rfl ?_
      obtain ⟨h0, h⟩ := h
      refine y_iald cx (pc := 165) ⟨(le_b rfl), fun _ => rfl⟩ h0 d_m_read_165 ?_
      obtain ⟨h0, h⟩ := h
      refine y_iast cx (pc := 166) ⟨(le_b rfl), fun _ => rfl⟩ h0 d_m_read_166 ?_
      refine y_aload_n cx (pc := 167) d_m_read_167 rfl 0 rfl ?_
      refine y_get cx (pc := 168) (j := 15) (v := .ref (Δ.1 67)) (le_b rfl) ck_Md kw_763 (le_b rfl) (gf_58_15 Δ _) d_m_read_168 ?_
      refine y_iload_n cx (pc := 171) d_m_read_171 rfl 1 rfl ?_
      refine y_aload_n cx (pc := 172) d_m_read_172 rfl 0 rfl ?_
      refine y_get cx (pc := 173) (j := 13) (v := .ref (Δ.1 65)) (le_b rfl) ck_Md kw_761 (le_b rfl) (gf_58_13 Δ _) d_m_read_173 ?_
      refine y_iload_n cx (pc := 176) d_m_read_176 rfl 1 rfl ?_
      obtain ⟨h0, h⟩ := h
      refine y_iald cx (pc := 177) ⟨(le_b rfl), fun _ => rfl⟩ h0 d_m_read_177 ?_
      obtain ⟨h0, h⟩ := h
      refine y_iast cx (pc := 178) ⟨(le_b rfl), fun _ => rfl⟩ h0 d_m_read_178 ?_
      refine y_aload_n cx (pc := 179) d_m_read_179 rfl 0 rfl ?_
      refine y_get cx (pc := 180) (j := 23) (v := .ref (Δ.1 71)) (le_b rfl) ck_Md kw_771 (le_b rfl) (gf_58_23 Δ _) d_m_read_180 ?_
      refine y_iload_n cx (pc := 183) d_m_read_183 rfl 1 rfl ?_
      refine y_iconst cx (pc := 184) ic_0 d_m_read_184 ?_
      obtain ⟨h0, h⟩ := h
      refine y_zastB cx (pc := 185) ⟨(le_b rfl), fun _ => rfl⟩ h0 bz_0 d_m_read_185 ?_
      obtain ⟨x1, ex1⟩ : ∃ y : Int32, y = v2 + 1 := ⟨_, rfl⟩
      replace h := h x1 ex1
      refine y_iinc (v := x1) (lv' := [(2, .int x1), (0, .ref (Δ.1 58))]) cx (pc := 186) d_m_read_186 (j := 1) rfl (by rw [ex1]; rfl) (le_b rfl) rfl ?_
      refine y_goto cx (pc := 189) (tgt := 149) d_m_read_189 (by decide) ?_
      refine y_sub [1, 0] rfl ?_
      exact ih x1 (up (up (up σ 66 (v2.toNatClampNeg) (σ 64 (v2.toNatClampNeg))) 67 (v2.toNatClampNeg) (σ 65 (v2.toNatClampNeg))) 71 (v2.toNatClampNeg) 0) h
def w_m_read_122 (Q : Int32 → Sg → Prop) : Nat → Int32 → Sg → Prop
  | 0, _, _ => False
  | n + 1, v2, σ => (540 ≤ v2 → (∃ q149, w_m_read_149 Q q149 0 σ)) ∧ (¬ 540 ≤ v2 → (vp_in v2 540 ∧ (vp_in v2 540 ∧ (∀ x1 : Int32, x1 = v2 + 1 → ((w_m_read_122 Q n) x1 (up σ 63 (v2.toNatClampNeg) (σ 62 (v2.toNatClampNeg))))))))
theorem b_m_read_122 {Δ : Ly} {G : Gm} {Q : Int32 → Sg → Prop} (cx : Cx Δ G mi_m_read) : ∀ (n : Nat) (v2 : Int32) (σ : Sg), w_m_read_122 Q n v2 σ → Y Δ G mi_m_read (qI Q) noE 0 0 σ 122 [(0, .ref (Δ.1 58)), (2, .int v2)] [] := by
  intro n
  induction n with
  | zero => intro v2 σ h; exact h.elim
  | succ n ih =>
    intro v2 σ h
    unfold w_m_read_122 at h
    refine y_iload_n cx (pc := 122) d_m_read_122 rfl 1 rfl ?_
    refine y_sipush cx (pc := 123) sp_540 d_m_read_123 ?_
    refine y_icmp_ge cx (pc := 126) (tgt := 147) d_m_read_126 (by decide) (fun hc => ?_) (fun hc => ?_)
    · replace h := h.1 hc
      refine y_iconst cx (pc := 147) ic_0 d_m_read_147 ?_
      refine y_istore_n (lv' := [(2, .int 0), (0, .ref (Δ.1 58))]) cx (pc := 148) d_m_read_148 rfl (le_b rfl) rfl ?_
      refine y_sub [1, 0] rfl ?_
      obtain ⟨n, h⟩ := h
      exact b_m_read_149 cx n 0 σ h
    · replace h := h.2 hc
      refine y_aload_n cx (pc := 129) d_m_read_129 rfl 0 rfl ?_
      refine y_get cx (pc := 130) (j := 11) (v := .ref (Δ.1 63)) (le_b rfl) ck_Md kw_759 (le_b rfl) (gf_58_11 Δ _) d_m_read_130 ?_
      refine y_iload_n cx (pc := 133) d_m_read_133 rfl 1 rfl ?_
      refine y_aload_n cx (pc := 134) d_m_read_134 rfl 0 rfl ?_
      refine y_get cx (pc := 135) (j := 10) (v := .ref (Δ.1 62)) (le_b rfl) ck_Md kw_758 (le_b rfl) (gf_58_10 Δ _) d_m_read_135 ?_
      refine y_iload_n cx (pc := 138) d_m_read_138 rfl 1 rfl ?_
      obtain ⟨h0, h⟩ := h
      refine y_iald cx (pc := 139) ⟨(le_b rfl), fun _ => rfl⟩ h0 d_m_read_139 ?_
      obtain ⟨h0, h⟩ := h
      refine y_iast cx (pc := 140) ⟨(le_b rfl), fun _ => rfl⟩ h0 d_m_read_140 ?_
      obtain ⟨x1, ex1⟩ : ∃ y : Int32, y = v2 + 1 := ⟨_, rfl⟩
      replace h := h x1 ex1
      refine y_iinc (v := x1) (lv' := [(2, .int x1), (0, .ref (Δ.1 58))]) cx (pc := 141) d_m_read_141 (j := 1) rfl (by rw [ex1]; rfl) (le_b rfl) rfl ?_
      refine y_goto cx (pc := 144) (tgt := 122) d_m_read_144 (by decide) ?_
      refine y_sub [1, 0] rfl ?_
      exact ih x1 (up σ 63 (v2.toNatClampNeg) (σ 62 (v2.toNatClampNeg))) h
def w_m_read_93 (Q : Int32 → Sg → Prop) (σ : Sg) : Prop := ((σ 58 6) ≤ 0 → (∃ q122, w_m_read_122 Q q122 0 (up (up σ 58 4 0) 58 9 (σ 58 8)))) ∧ (¬ (σ 58 6) ≤ 0 → (Q ((-1) - (σ 58 7)) (up σ 58 4 0)))
theorem b_m_read_93 {Δ : Ly} {G : Gm} {Q : Int32 → Sg → Prop} (cx : Cx Δ G mi_m_read) : ∀ (σ : Sg), w_m_read_93 Q σ → Y Δ G mi_m_read (qI Q) noE 0 0 σ 93 [(0, .ref (Δ.1 58))] [] := by
  intro σ h
  unfold w_m_read_93 at h
  refine y_aload_n cx (pc := 93) d_m_read_93 rfl 0 rfl ?_
  refine y_iconst cx (pc := 94) ic_0 d_m_read_94 ?_
  refine y_put cx (pc := 95) (j := 4) (ty := .int) (le_b rfl) ck_Md kw_752 (le_b rfl) rfl (t_Md_ok 4 (le_b rfl)) rfl rfl (pf_58_4 Δ) d_m_read_95 ?_
  refine y_aload_n cx (pc := 98) d_m_read_98 rfl 0 rfl ?_
  refine y_get cx (pc := 99) (j := 6) (v := .int (σ 58 6)) (le_b rfl) ck_Md kw_754 (le_b rfl) (gf_58_6 Δ _) d_m_read_99 ?_
  refine y_if_le cx (pc := 102) (tgt := 112) d_m_read_102 (by decide) (fun hc => ?_) (fun hc => ?_)
  · replace h := h.1 hc
    refine y_aload_n cx (pc := 112) d_m_read_112 rfl 0 rfl ?_
    refine y_aload_n cx (pc := 113) d_m_read_113 rfl 0 rfl ?_
    refine y_get cx (pc := 114) (j := 8) (v := .int (σ 58 8)) (le_b rfl) ck_Md kw_756 (le_b rfl) (gf_58_8 Δ _) d_m_read_114 ?_
    refine y_put cx (pc := 117) (j := 9) (ty := .int) (le_b rfl) ck_Md kw_757 (le_b rfl) rfl (t_Md_ok 9 (le_b rfl)) rfl rfl (pf_58_9 Δ) d_m_read_117 ?_
    refine y_iconst cx (pc := 120) ic_0 d_m_read_120 ?_
    refine y_istore_n (lv' := [(2, .int 0), (0, .ref (Δ.1 58))]) cx (pc := 121) d_m_read_121 rfl (le_b rfl) rfl ?_
    refine y_sub [1, 0] rfl ?_
    obtain ⟨n, h⟩ := h
    exact b_m_read_122 cx n 0 (up (up σ 58 4 0) 58 9 (σ 58 8)) h
  · replace h := h.2 hc
    refine y_iconst cx (pc := 105) ic_m1 d_m_read_105 ?_
    refine y_aload_n cx (pc := 106) d_m_read_106 rfl 0 rfl ?_
    refine y_get cx (pc := 107) (j := 7) (v := .int (σ 58 7)) (le_b rfl) ck_Md kw_755 (le_b rfl) (gf_58_7 Δ _) d_m_read_107 ?_
    refine y_isub cx (pc := 110) d_m_read_110 ?_
    exact y_iret cx (pc := 111) rfl d_m_read_111 (le_b rfl) (le_b rfl) h
def w_m_read_89 (K30 : Int32 → Sg → Prop) (Q : Int32 → Sg → Prop) (s0 : Int32) (σ : Sg) : Prop := K30 s0 σ
theorem b_m_read_89 {Δ : Ly} {G : Gm} {K30 : Int32 → Sg → Prop} {Q : Int32 → Sg → Prop} (cx : Cx Δ G mi_m_read) (hK30 : ∀ (v1 : Int32) (σ : Sg), K30 v1 σ → Y Δ G mi_m_read (qI Q) noE 0 0 σ 30 [(0, .ref (Δ.1 58)), (1, .int v1)] []) : ∀ (s0 : Int32) (σ : Sg), w_m_read_89 K30 Q s0 σ → Y Δ G mi_m_read (qI Q) noE 0 0 σ 89 [(0, .ref (Δ.1 58))] [.int s0] := by
  intro s0 σ h
  unfold w_m_read_89 at h
  refine y_istore_n (lv' := [(1, .int s0), (0, .ref (Δ.1 58))]) cx (pc := 89) d_m_read_89 rfl (le_b rfl) rfl ?_
  refine y_goto cx (pc := 90) (tgt := 30) d_m_read_90 (by decide) ?_
  refine y_sub [1, 0] rfl ?_
  exact hK30 s0 σ h
def w_m_read_74 (K30 : Int32 → Sg → Prop) (Q : Int32 → Sg → Prop) (σ : Sg) : Prop := ((σ 58 6) ≤ 0 → (w_m_next σ (fun x1 σ2 => w_m_read_89 K30 Q x1 σ2))) ∧ (¬ (σ 58 6) ≤ 0 → (w_m_read_89 K30 Q (-1) σ))
theorem b_m_read_74 {Δ : Ly} {G : Gm} {K30 : Int32 → Sg → Prop} {Q : Int32 → Sg → Prop} (cx : Cx Δ G mi_m_read) (hK30 : ∀ (v1 : Int32) (σ : Sg), K30 v1 σ → Y Δ G mi_m_read (qI Q) noE 0 0 σ 30 [(0, .ref (Δ.1 58)), (1, .int v1)] []) : ∀ (σ : Sg), w_m_read_74 K30 Q σ → Y Δ G mi_m_read (qI Q) noE 0 0 σ 74 [(0, .ref (Δ.1 58))] [] := by
  intro σ h
  unfold w_m_read_74 at h
  refine y_aload_n cx (pc := 74) d_m_read_74 rfl 0 rfl ?_
  refine y_get cx (pc := 75) (j := 6) (v := .int (σ 58 6)) (le_b rfl) ck_Md kw_754 (le_b rfl) (gf_58_6 Δ _) d_m_read_75 ?_
  refine y_if_le cx (pc := 78) (tgt := 85) d_m_read_78 (by decide) (fun hc => ?_) (fun hc => ?_)
  · replace h := h.1 hc
    refine y_aload_n cx (pc := 85) d_m_read_85 rfl 0 rfl ?_
    refine y_vI cx (pc := 86) (st := []) [] (c_m_next cx.fl Δ _ _ h) mv_m_next kw_915 (oc_58 Δ) ck_Md rfl (le_b rfl) (le_b rfl) (le_b rfl) (le_b rfl) (le_b rfl) d_m_read_86 (fun x1 σ2 h => ?_) (fun x σ2 h => yt_no h)
    exact b_m_read_89 cx hK30 x1 σ2 h
  · replace h := h.2 hc
    refine y_iconst cx (pc := 81) ic_m1 d_m_read_81 ?_
    refine y_goto cx (pc := 82) (tgt := 89) d_m_read_82 (by decide) ?_
    exact b_m_read_89 cx hK30 (-1) σ h
def w_m_read_69 (K30 : Int32 → Sg → Prop) (Q : Int32 → Sg → Prop) (v1 : Int32) (σ : Sg) : Prop := w_m_readStatement v1 σ (fun σ1 => w_m_read_74 K30 Q σ1)
theorem b_m_read_69 {Δ : Ly} {G : Gm} {K30 : Int32 → Sg → Prop} {Q : Int32 → Sg → Prop} (cx : Cx Δ G mi_m_read) (hK30 : ∀ (v1 : Int32) (σ : Sg), K30 v1 σ → Y Δ G mi_m_read (qI Q) noE 0 0 σ 30 [(0, .ref (Δ.1 58)), (1, .int v1)] []) : ∀ (v1 : Int32) (σ : Sg), w_m_read_69 K30 Q v1 σ → Y Δ G mi_m_read (qI Q) noE 0 0 σ 69 [(0, .ref (Δ.1 58)), (1, .int v1)] [] := by
  intro v1 σ h
  unfold w_m_read_69 at h
  refine y_aload_n cx (pc := 69) d_m_read_69 rfl 0 rfl ?_
  refine y_iload_n cx (pc := 70) d_m_read_70 rfl 1 rfl ?_
  refine y_vV cx (pc := 71) (st := []) [.int v1] (c_m_readStatement cx.fl Δ v1 _ _ h) mv_m_readStatement kw_923 (oc_58 Δ) ck_Md rfl (le_b rfl) (le_b rfl) (le_b rfl) (le_b rfl) (le_b rfl) d_m_read_71 (fun σ1 h => ?_) (fun x σ1 h => yt_no h)
  refine y_sub [0] rfl ?_
  exact b_m_read_74 cx hK30 σ1 h
def w_m_read_49 (K30 : Int32 → Sg → Prop) (Q : Int32 → Sg → Prop) (v1 : Int32) (σ : Sg) : Prop := (¬ v1 = 125 → (w_m_read_69 K30 Q v1 σ)) ∧ (v1 = 125 → (((σ 58 18) ≤ 0 → (w_m_read_69 K30 Q v1 σ)) ∧ (¬ (σ 58 18) ≤ 0 → (w_m_closeSide σ (fun σ1 => w_m_read_74 K30 Q σ1)))))
theorem b_m_read_49 {Δ : Ly} {G : Gm} {K30 : Int32 → Sg → Prop} {Q : Int32 → Sg → Prop} (cx : Cx Δ G mi_m_read) (hK30 : ∀ (v1 : Int32) (σ : Sg), K30 v1 σ → Y Δ G mi_m_read (qI Q) noE 0 0 σ 30 [(0, .ref (Δ.1 58)), (1, .int v1)] []) : ∀ (v1 : Int32) (σ : Sg), w_m_read_49 K30 Q v1 σ → Y Δ G mi_m_read (qI Q) noE 0 0 σ 49 [(0, .ref (Δ.1 58)), (1, .int v1)] [] := by
  intro v1 σ h
  unfold w_m_read_49 at h
  refine y_iload_n cx (pc := 49) d_m_read_49 rfl 1 rfl ?_
  refine y_bipush cx (pc := 50) bp_125 d_m_read_50 ?_
  refine y_icmp_ne cx (pc := 52) (tgt := 69) d_m_read_52 (by decide) (fun hc => ?_) (fun hc => ?_)
  · replace h := h.1 hc
    exact b_m_read_69 cx hK30 v1 σ h
  · replace h := h.2 hc
    refine y_aload_n cx (pc := 55) d_m_read_55 rfl 0 rfl ?_
    refine y_get cx (pc := 56) (j := 18) (v := .int (σ 58 18)) (le_b rfl) ck_Md kw_766 (le_b rfl) (gf_58_18 Δ _) d_m_read_56 ?_
    refine y_if_le cx (pc := 59) (tgt := 69) d_m_read_59 (by decide) (fun hc => ?_) (fun hc => ?_)
    · replace h := h.1 hc
      exact b_m_read_69 cx hK30 v1 σ h
    · replace h := h.2 hc
      refine y_aload_n cx (pc := 62) d_m_read_62 rfl 0 rfl ?_
      refine y_vV cx (pc := 63) (st := []) [] (c_m_closeSide cx.fl Δ _ _ h) mv_m_closeSide kw_919 (oc_58 Δ) ck_Md rfl (le_b rfl) (le_b rfl) (le_b rfl) (le_b rfl) (le_b rfl) d_m_read_63 (fun σ1 h => ?_) (fun x σ1 h => yt_no h)
      refine y_goto cx (pc := 66) (tgt := 74) d_m_read_66 (by decide) ?_
      refine y_sub [0] rfl ?_
      exact b_m_read_74 cx hK30 σ1 h
def w_m_read_30 (Q : Int32 → Sg → Prop) : Nat → Int32 → Sg → Prop
  | 0, _, _ => False
  | n + 1, v1, σ => (¬ (σ 58 6) = 0 → (w_m_read_93 Q σ)) ∧ ((σ 58 6) = 0 → ((¬ v1 = (-1) → (w_m_read_49 (w_m_read_30 Q n) Q v1 σ)) ∧ (v1 = (-1) → (((σ 58 18) ≤ 0 → (w_m_read_93 Q σ)) ∧ (¬ (σ 58 18) ≤ 0 → (w_m_read_49 (w_m_read_30 Q n) Q v1 σ))))))
theorem b_m_read_30 {Δ : Ly} {G : Gm} {Q : Int32 → Sg → Prop} (cx : Cx Δ G mi_m_read) : ∀ (n : Nat) (v1 : Int32) (σ : Sg), w_m_read_30 Q n v1 σ → Y Δ G mi_m_read (qI Q) noE 0 0 σ 30 [(0, .ref (Δ.1 58)), (1, .int v1)] [] := by
  intro n
  induction n with
  | zero => intro v1 σ h; exact h.elim
  | succ n ih =>
    intro v1 σ h
    unfold w_m_read_30 at h
    refine y_aload_n cx (pc := 30) d_m_read_30 rfl 0 rfl ?_
    refine y_get cx (pc := 31) (j := 6) (v := .int (σ 58 6)) (le_b rfl) ck_Md kw_754 (le_b rfl) (gf_58_6 Δ _) d_m_read_31 ?_
    refine y_if_ne cx (pc := 34) (tgt := 93) d_m_read_34 (by decide) (fun hc => ?_) (fun hc => ?_)
    · replace h := h.1 hc
      refine y_sub [0] rfl ?_
      exact b_m_read_93 cx σ h
    · replace h := h.2 hc
      refine y_iload_n cx (pc := 37) d_m_read_37 rfl 1 rfl ?_
      refine y_iconst cx (pc := 38) ic_m1 d_m_read_38 ?_
      refine y_icmp_ne cx (pc := 39) (tgt := 49) d_m_read_39 (by decide) (fun hc => ?_) (fun hc => ?_)
      · replace h := h.1 hc
        exact b_m_read_49 cx ih v1 σ h
      · replace h := h.2 hc
        refine y_aload_n cx (pc := 42) d_m_read_42 rfl 0 rfl ?_
        refine y_get cx (pc := 43) (j := 18) (v := .int (σ 58 18)) (le_b rfl) ck_Md kw_766 (le_b rfl) (gf_58_18 Δ _) d_m_read_43 ?_
        refine y_if_le cx (pc := 46) (tgt := 93) d_m_read_46 (by decide) (fun hc => ?_) (fun hc => ?_)
        · replace h := h.1 hc
          refine y_sub [0] rfl ?_
          exact b_m_read_93 cx σ h
        · replace h := h.2 hc
          exact b_m_read_49 cx ih v1 σ h
def w_m_read (σ : Sg) (Q : Int32 → Sg → Prop) : Prop := w_m_next (up (up (up (up (up σ 58 0 0) 58 6 0) 58 5 0) 58 8 0) 58 18 0) (fun x1 σ2 => ∃ q30, w_m_read_30 Q q30 x1 σ2)
theorem b_m_read {Δ : Ly} {G : Gm} {Q : Int32 → Sg → Prop} (cx : Cx Δ G mi_m_read) (σ : Sg) (h : w_m_read σ Q) : Y Δ G mi_m_read (qI Q) noE 0 0 σ 0 [(0, .ref (Δ.1 58))] [] := by
  unfold w_m_read at h
  refine y_aload_n cx (pc := 0) d_m_read_0 rfl 0 rfl ?_
  refine y_iconst cx (pc := 1) ic_0 d_m_read_1 ?_
  refine y_put cx (pc := 2) (j := 0) (ty := .int) (le_b rfl) ck_Md kw_748 (le_b rfl) rfl (t_Md_ok 0 (le_b rfl)) rfl rfl (pf_58_0 Δ) d_m_read_2 ?_
  refine y_aload_n cx (pc := 5) d_m_read_5 rfl 0 rfl ?_
  refine y_iconst cx (pc := 6) ic_0 d_m_read_6 ?_
  refine y_put cx (pc := 7) (j := 6) (ty := .int) (le_b rfl) ck_Md kw_754 (le_b rfl) rfl (t_Md_ok 6 (le_b rfl)) rfl rfl (pf_58_6 Δ) d_m_read_7 ?_
  refine y_aload_n cx (pc := 10) d_m_read_10 rfl 0 rfl ?_
  refine y_iconst cx (pc := 11) ic_0 d_m_read_11 ?_
  refine y_put cx (pc := 12) (j := 5) (ty := .int) (le_b rfl) ck_Md kw_753 (le_b rfl) rfl (t_Md_ok 5 (le_b rfl)) rfl rfl (pf_58_5 Δ) d_m_read_12 ?_
  refine y_aload_n cx (pc := 15) d_m_read_15 rfl 0 rfl ?_
  refine y_iconst cx (pc := 16) ic_0 d_m_read_16 ?_
  refine y_put cx (pc := 17) (j := 8) (ty := .int) (le_b rfl) ck_Md kw_756 (le_b rfl) rfl (t_Md_ok 8 (le_b rfl)) rfl rfl (pf_58_8 Δ) d_m_read_17 ?_
  refine y_aload_n cx (pc := 20) d_m_read_20 rfl 0 rfl ?_
  refine y_iconst cx (pc := 21) ic_0 d_m_read_21 ?_
  refine y_put cx (pc := 22) (j := 18) (ty := .int) (le_b rfl) ck_Md kw_766 (le_b rfl) rfl (t_Md_ok 18 (le_b rfl)) rfl rfl (pf_58_18 Δ) d_m_read_22 ?_
  refine y_aload_n cx (pc := 25) d_m_read_25 rfl 0 rfl ?_
  refine y_vI cx (pc := 26) (st := []) [] (c_m_next cx.fl Δ _ _ h) mv_m_next kw_915 (oc_58 Δ) ck_Md rfl (le_b rfl) (le_b rfl) (le_b rfl) (le_b rfl) (le_b rfl) d_m_read_26 (fun x1 σ2 h => ?_) (fun x σ2 h => yt_no h)
  refine y_istore_n (lv' := [(1, .int x1), (0, .ref (Δ.1 58))]) cx (pc := 29) d_m_read_29 rfl (le_b rfl) rfl ?_
  refine y_sub [1, 0] rfl ?_
  obtain ⟨n, h⟩ := h
  exact b_m_read_30 cx n x1 σ2 h
theorem c_m_read {l : Launch} (hfl : l.flags = flags0) (Δ : Ly) (σ : Sg) (Q : Int32 → Sg → Prop) (h : w_m_read σ Q) : Ct l Δ mi_m_read [.ref (Δ.1 58)] σ (qI Q) noE :=
  Ct.of hfl (by show plainFor ⟨"GuardedMovesModel", "read", "()I"⟩ = true; decide +kernel) rfl (le_b rfl) (fun G hl cx => b_m_read cx σ h)
def mi_m_fault : Mi := ("GuardedMovesModel", prog_6_method_22_code, 1, [], (some .int), 0, 0, 0, 0, ⟨"GuardedMovesModel", "fault", "()I"⟩)
theorem d_m_fault_0 : decode prog_6_method_22_code 0 = .ok (.aload_n 0, 1) := by decide +kernel
theorem d_m_fault_1 : decode prog_6_method_22_code 1 = .ok (.iconst 0, 1) := by decide +kernel
theorem d_m_fault_2 : decode prog_6_method_22_code 2 = .ok (.putfield 102, 3) := by decide +kernel
theorem d_m_fault_5 : decode prog_6_method_22_code 5 = .ok (.aload_n 0, 1) := by decide +kernel
theorem d_m_fault_6 : decode prog_6_method_22_code 6 = .ok (.getfield 124, 3) := by decide +kernel
theorem d_m_fault_9 : decode prog_6_method_22_code 9 = .ok (.ireturn, 1) := by decide +kernel
theorem kc_m_fault : Kw (m_w (mi_m_fault )) := ⟨(in_t5 (List.mem_of_getElem? (i := 10) rfl)), rfl⟩
theorem mv_m_fault : MV (mi_m_fault ) "GuardedMovesModel" 0 := ⟨kw_968, kw_969, kc_m_fault , kw_7, ⟨⟨(by show ("GuardedMovesModel" : String) ≠ "java/lang/invoke/MethodHandle"; decide), (by show ("GuardedMovesModel" : String) ≠ "java/lang/invoke/VarHandle"; decide)⟩, (by show (parseMethodDescriptor "()I").map (fun d => d.parameters.length) = some 0; decide +kernel)⟩⟩
def w_m_fault (σ : Sg) (Q : Int32 → Sg → Prop) : Prop := Q (σ 58 6) (up σ 58 0 0)
theorem b_m_fault {Δ : Ly} {G : Gm} {Q : Int32 → Sg → Prop} (cx : Cx Δ G mi_m_fault) (σ : Sg) (h : w_m_fault σ Q) : Y Δ G mi_m_fault (qI Q) noE 0 0 σ 0 [(0, .ref (Δ.1 58))] [] := by
  unfold w_m_fault at h
  refine y_aload_n cx (pc := 0) d_m_fault_0 rfl 0 rfl ?_
  refine y_iconst cx (pc := 1) ic_0 d_m_fault_1 ?_
  refine y_put cx (pc := 2) (j := 0) (ty := .int) (le_b rfl) ck_Md kw_748 (le_b rfl) rfl (t_Md_ok 0 (le_b rfl)) rfl rfl (pf_58_0 Δ) d_m_fault_2 ?_
  refine y_aload_n cx (pc := 5) d_m_fault_5 rfl 0 rfl ?_
  refine y_get cx (pc := 6) (j := 6) (v := .int (σ 58 6)) (le_b rfl) ck_Md kw_754 (le_b rfl) (gf_58_6 Δ _) d_m_fault_6 ?_
  exact y_iret cx (pc := 9) rfl d_m_fault_9 (le_b rfl) (le_b rfl) h
theorem c_m_fault {l : Launch} (hfl : l.flags = flags0) (Δ : Ly) (σ : Sg) (Q : Int32 → Sg → Prop) (h : w_m_fault σ Q) : Ct l Δ mi_m_fault [.ref (Δ.1 58)] σ (qI Q) noE :=
  Ct.of hfl (by show plainFor ⟨"GuardedMovesModel", "fault", "()I"⟩ = true; decide +kernel) rfl (le_b rfl) (fun G hl cx => b_m_fault cx σ h)
def mi_m_emit : Mi := ("GuardedMovesModel", prog_6_method_24_code, 7, [], (some .int), 0, 0, 0, 0, ⟨"GuardedMovesModel", "emit", "(IIIII)I"⟩)
theorem d_m_emit_0 : decode prog_6_method_24_code 0 = .ok (.bipush 6, 2) := by decide +kernel
theorem d_m_emit_2 : decode prog_6_method_24_code 2 = .ok (.aload_n 0, 1) := by decide +kernel
theorem d_m_emit_3 : decode prog_6_method_24_code 3 = .ok (.getfield 199, 3) := by decide +kernel
theorem d_m_emit_6 : decode prog_6_method_24_code 6 = .ok (.imul, 1) := by decide +kernel
theorem d_m_emit_7 : decode prog_6_method_24_code 7 = .ok (.istore 6, 2) := by decide +kernel
theorem d_m_emit_9 : decode prog_6_method_24_code 9 = .ok (.aload_n 0, 1) := by decide +kernel
theorem d_m_emit_10 : decode prog_6_method_24_code 10 = .ok (.getfield 44, 3) := by decide +kernel
theorem d_m_emit_13 : decode prog_6_method_24_code 13 = .ok (.iload 6, 2) := by decide +kernel
theorem d_m_emit_15 : decode prog_6_method_24_code 15 = .ok (.iload_n 1, 1) := by decide +kernel
theorem d_m_emit_16 : decode prog_6_method_24_code 16 = .ok (.iastore, 1) := by decide +kernel
theorem d_m_emit_17 : decode prog_6_method_24_code 17 = .ok (.aload_n 0, 1) := by decide +kernel
theorem d_m_emit_18 : decode prog_6_method_24_code 18 = .ok (.getfield 44, 3) := by decide +kernel
theorem d_m_emit_21 : decode prog_6_method_24_code 21 = .ok (.iload 6, 2) := by decide +kernel
theorem d_m_emit_23 : decode prog_6_method_24_code 23 = .ok (.iconst 1, 1) := by decide +kernel
theorem d_m_emit_24 : decode prog_6_method_24_code 24 = .ok (.iadd, 1) := by decide +kernel
theorem d_m_emit_25 : decode prog_6_method_24_code 25 = .ok (.iload_n 2, 1) := by decide +kernel
theorem d_m_emit_26 : decode prog_6_method_24_code 26 = .ok (.iastore, 1) := by decide +kernel
theorem d_m_emit_27 : decode prog_6_method_24_code 27 = .ok (.aload_n 0, 1) := by decide +kernel
theorem d_m_emit_28 : decode prog_6_method_24_code 28 = .ok (.getfield 44, 3) := by decide +kernel
theorem d_m_emit_31 : decode prog_6_method_24_code 31 = .ok (.iload 6, 2) := by decide +kernel
theorem d_m_emit_33 : decode prog_6_method_24_code 33 = .ok (.iconst 2, 1) := by decide +kernel
theorem d_m_emit_34 : decode prog_6_method_24_code 34 = .ok (.iadd, 1) := by decide +kernel
theorem d_m_emit_35 : decode prog_6_method_24_code 35 = .ok (.iload_n 3, 1) := by decide +kernel
theorem d_m_emit_36 : decode prog_6_method_24_code 36 = .ok (.iastore, 1) := by decide +kernel
theorem d_m_emit_37 : decode prog_6_method_24_code 37 = .ok (.aload_n 0, 1) := by decide +kernel
theorem d_m_emit_38 : decode prog_6_method_24_code 38 = .ok (.getfield 44, 3) := by decide +kernel
theorem d_m_emit_41 : decode prog_6_method_24_code 41 = .ok (.iload 6, 2) := by decide +kernel
theorem d_m_emit_43 : decode prog_6_method_24_code 43 = .ok (.iconst 3, 1) := by decide +kernel
theorem d_m_emit_44 : decode prog_6_method_24_code 44 = .ok (.iadd, 1) := by decide +kernel
theorem d_m_emit_45 : decode prog_6_method_24_code 45 = .ok (.iload 4, 2) := by decide +kernel
theorem d_m_emit_47 : decode prog_6_method_24_code 47 = .ok (.iastore, 1) := by decide +kernel
theorem d_m_emit_48 : decode prog_6_method_24_code 48 = .ok (.aload_n 0, 1) := by decide +kernel
theorem d_m_emit_49 : decode prog_6_method_24_code 49 = .ok (.getfield 44, 3) := by decide +kernel
theorem d_m_emit_52 : decode prog_6_method_24_code 52 = .ok (.iload 6, 2) := by decide +kernel
theorem d_m_emit_54 : decode prog_6_method_24_code 54 = .ok (.iconst 4, 1) := by decide +kernel
theorem d_m_emit_55 : decode prog_6_method_24_code 55 = .ok (.iadd, 1) := by decide +kernel
theorem d_m_emit_56 : decode prog_6_method_24_code 56 = .ok (.iload 5, 2) := by decide +kernel
theorem d_m_emit_58 : decode prog_6_method_24_code 58 = .ok (.iastore, 1) := by decide +kernel
theorem d_m_emit_59 : decode prog_6_method_24_code 59 = .ok (.aload_n 0, 1) := by decide +kernel
theorem d_m_emit_60 : decode prog_6_method_24_code 60 = .ok (.getfield 44, 3) := by decide +kernel
theorem d_m_emit_63 : decode prog_6_method_24_code 63 = .ok (.iload 6, 2) := by decide +kernel
theorem d_m_emit_65 : decode prog_6_method_24_code 65 = .ok (.iconst 5, 1) := by decide +kernel
theorem d_m_emit_66 : decode prog_6_method_24_code 66 = .ok (.iadd, 1) := by decide +kernel
theorem d_m_emit_67 : decode prog_6_method_24_code 67 = .ok (.aload_n 0, 1) := by decide +kernel
theorem d_m_emit_68 : decode prog_6_method_24_code 68 = .ok (.getfield 202, 3) := by decide +kernel
theorem d_m_emit_71 : decode prog_6_method_24_code 71 = .ok (.iastore, 1) := by decide +kernel
theorem d_m_emit_72 : decode prog_6_method_24_code 72 = .ok (.aload_n 0, 1) := by decide +kernel
theorem d_m_emit_73 : decode prog_6_method_24_code 73 = .ok (.dup, 1) := by decide +kernel
theorem d_m_emit_74 : decode prog_6_method_24_code 74 = .ok (.getfield 199, 3) := by decide +kernel
theorem d_m_emit_77 : decode prog_6_method_24_code 77 = .ok (.iconst 1, 1) := by decide +kernel
theorem d_m_emit_78 : decode prog_6_method_24_code 78 = .ok (.iadd, 1) := by decide +kernel
theorem d_m_emit_79 : decode prog_6_method_24_code 79 = .ok (.putfield 199, 3) := by decide +kernel
theorem d_m_emit_82 : decode prog_6_method_24_code 82 = .ok (.aload_n 0, 1) := by decide +kernel
theorem d_m_emit_83 : decode prog_6_method_24_code 83 = .ok (.getfield 199, 3) := by decide +kernel
theorem d_m_emit_86 : decode prog_6_method_24_code 86 = .ok (.iconst 1, 1) := by decide +kernel
theorem d_m_emit_87 : decode prog_6_method_24_code 87 = .ok (.isub, 1) := by decide +kernel
theorem d_m_emit_88 : decode prog_6_method_24_code 88 = .ok (.ireturn, 1) := by decide +kernel
theorem kc_m_emit : Kw (m_w (mi_m_emit )) := ⟨(in_t5 (List.mem_of_getElem? (i := 39) rfl)), rfl⟩
theorem mv_m_emit : MV (mi_m_emit ) "GuardedMovesModel" 5 := ⟨kw_998, ks_59, kc_m_emit , kw_7, ⟨⟨(by show ("GuardedMovesModel" : String) ≠ "java/lang/invoke/MethodHandle"; decide), (by show ("GuardedMovesModel" : String) ≠ "java/lang/invoke/VarHandle"; decide)⟩, (by show (parseMethodDescriptor "(IIIII)I").map (fun d => d.parameters.length) = some 5; decide +kernel)⟩⟩
def w_m_emit (p1 : Int32) (p2 : Int32) (p3 : Int32) (p4 : Int32) (p5 : Int32) (σ : Sg) (Q : Int32 → Sg → Prop) : Prop := ∀ x1 : Int32, x1 = 6 * (σ 58 20) → (vp_in x1 24000 ∧ (vp_in (x1 + 1) 24000 ∧ (vp_in (x1 + 2) 24000 ∧ (vp_in (x1 + 3) 24000 ∧ (vp_in (x1 + 4) 24000 ∧ (vp_in (x1 + 5) 24000 ∧ (Q (((σ 58 20) + 1) - 1) (up (up (up (up (up (up (up σ 70 (x1.toNatClampNeg) p1) 70 ((x1 + 1).toNatClampNeg) p2) 70 ((x1 + 2).toNatClampNeg) p3) 70 ((x1 + 3).toNatClampNeg) p4) 70 ((x1 + 4).toNatClampNeg) p5) 70 ((x1 + 5).toNatClampNeg) (σ 58 24)) 58 20 ((σ 58 20) + 1)))))))))
theorem b_m_emit {Δ : Ly} {G : Gm} {Q : Int32 → Sg → Prop} (cx : Cx Δ G mi_m_emit) (p1 : Int32) (p2 : Int32) (p3 : Int32) (p4 : Int32) (p5 : Int32) (σ : Sg) (h : w_m_emit p1 p2 p3 p4 p5 σ Q) : Y Δ G mi_m_emit (qI Q) noE 0 0 σ 0 [(0, .ref (Δ.1 58)), (1, .int p1), (2, .int p2), (3, .int p3), (4, .int p4), (5, .int p5)] [] := by
  unfold w_m_emit at h
  refine y_bipush cx (pc := 0) bp_6 d_m_emit_0 ?_
  refine y_aload_n cx (pc := 2) d_m_emit_2 rfl 0 rfl ?_
  refine y_get cx (pc := 3) (j := 20) (v := .int (σ 58 20)) (le_b rfl) ck_Md kw_768 (le_b rfl) (gf_58_20 Δ _) d_m_emit_3 ?_
  refine y_imul cx (pc := 6) d_m_emit_6 ?_
  refine y_topi (fun x1 ex1 => ?_)
  replace h := h x1 ex1
  refine y_istore (lv' := [(6, .int x1), (0, .ref (Δ.1 58)), (1, .int p1), (2, .int p2), (3, .int p3), (4, .int p4), (5, .int p5)]) cx (pc := 7) d_m_emit_7 (le_b rfl) rfl ?_
  refine y_aload_n cx (pc := 9) d_m_emit_9 rfl 1 rfl ?_
  refine y_get cx (pc := 10) (j := 19) (v := .ref (Δ.1 70)) (le_b rfl) ck_Md kw_767 (le_b rfl) (gf_58_19 Δ _) d_m_emit_10 ?_
  refine y_iload cx (pc := 13) d_m_emit_13 0 rfl ?_
  refine y_iload_n cx (pc := 15) d_m_emit_15 rfl 2 rfl ?_
  obtain ⟨h0, h⟩ := h
  refine y_iast cx (pc := 16) ⟨(le_b rfl), fun _ => rfl⟩ h0 d_m_emit_16 ?_
  refine y_aload_n cx (pc := 17) d_m_emit_17 rfl 1 rfl ?_
  refine y_get cx (pc := 18) (j := 19) (v := .ref (Δ.1 70)) (le_b rfl) ck_Md kw_767 (le_b rfl) (gf_58_19 Δ _) d_m_emit_18 ?_
  refine y_iload cx (pc := 21) d_m_emit_21 0 rfl ?_
  refine y_iconst cx (pc := 23) ic_1 d_m_emit_23 ?_
  refine y_iadd cx (pc := 24) d_m_emit_24 ?_
  refine y_iload_n cx (pc := 25) d_m_emit_25 rfl 3 rfl ?_
  obtain ⟨h0, h⟩ := h
  refine y_iast cx (pc := 26) ⟨(le_b rfl), fun _ => rfl⟩ h0 d_m_emit_26 ?_
  refine y_aload_n cx (pc := 27) d_m_emit_27 rfl 1 rfl ?_
  refine y_get cx (pc := 28) (j := 19) (v := .ref (Δ.1 70)) (le_b rfl) ck_Md kw_767 (le_b rfl) (gf_58_19 Δ _) d_m_emit_28 ?_
  refine y_iload cx (pc := 31) d_m_emit_31 0 rfl ?_
  refine y_iconst cx (pc := 33) ic_2 d_m_emit_33 ?_
  refine y_iadd cx (pc := 34) d_m_emit_34 ?_
  refine y_iload_n cx (pc := 35) d_m_emit_35 rfl 4 rfl ?_
  obtain ⟨h0, h⟩ := h
  refine y_iast cx (pc := 36) ⟨(le_b rfl), fun _ => rfl⟩ h0 d_m_emit_36 ?_
  refine y_aload_n cx (pc := 37) d_m_emit_37 rfl 1 rfl ?_
  refine y_get cx (pc := 38) (j := 19) (v := .ref (Δ.1 70)) (le_b rfl) ck_Md kw_767 (le_b rfl) (gf_58_19 Δ _) d_m_emit_38 ?_
  refine y_iload cx (pc := 41) d_m_emit_41 0 rfl ?_
  refine y_iconst cx (pc := 43) ic_3 d_m_emit_43 ?_
  refine y_iadd cx (pc := 44) d_m_emit_44 ?_
  refine y_iload cx (pc := 45) d_m_emit_45 5 rfl ?_
  obtain ⟨h0, h⟩ := h
  refine y_iast cx (pc := 47) ⟨(le_b rfl), fun _ => rfl⟩ h0 d_m_emit_47 ?_
  refine y_aload_n cx (pc := 48) d_m_emit_48 rfl 1 rfl ?_
  refine y_get cx (pc := 49) (j := 19) (v := .ref (Δ.1 70)) (le_b rfl) ck_Md kw_767 (le_b rfl) (gf_58_19 Δ _) d_m_emit_49 ?_
  refine y_iload cx (pc := 52) d_m_emit_52 0 rfl ?_
  refine y_iconst cx (pc := 54) ic_4 d_m_emit_54 ?_
  refine y_iadd cx (pc := 55) d_m_emit_55 ?_
  refine y_iload cx (pc := 56) d_m_emit_56 6 rfl ?_
  obtain ⟨h0, h⟩ := h
  refine y_iast cx (pc := 58) ⟨(le_b rfl), fun _ => rfl⟩ h0 d_m_emit_58 ?_
  refine y_aload_n cx (pc := 59) d_m_emit_59 rfl 1 rfl ?_
  refine y_get cx (pc := 60) (j := 19) (v := .ref (Δ.1 70)) (le_b rfl) ck_Md kw_767 (le_b rfl) (gf_58_19 Δ _) d_m_emit_60 ?_
  refine y_iload cx (pc := 63) d_m_emit_63 0 rfl ?_
  refine y_iconst cx (pc := 65) ic_5 d_m_emit_65 ?_
  refine y_iadd cx (pc := 66) d_m_emit_66 ?_
  refine y_aload_n cx (pc := 67) d_m_emit_67 rfl 1 rfl ?_
  refine y_get cx (pc := 68) (j := 24) (v := .int (σ 58 24)) (le_b rfl) ck_Md kw_772 (le_b rfl) (gf_58_24 Δ _) d_m_emit_68 ?_
  obtain ⟨h0, h⟩ := h
  refine y_iast cx (pc := 71) ⟨(le_b rfl), fun _ => rfl⟩ h0 d_m_emit_71 ?_
  refine y_aload_n cx (pc := 72) d_m_emit_72 rfl 1 rfl ?_
  refine y_dup cx (pc := 73) rfl d_m_emit_73 ?_
  refine y_get cx (pc := 74) (j := 20) (v := .int (σ 58 20)) (le_b rfl) ck_Md kw_768 (le_b rfl) (gf_58_20 Δ _) d_m_emit_74 ?_
  refine y_iconst cx (pc := 77) ic_1 d_m_emit_77 ?_
  refine y_iadd cx (pc := 78) d_m_emit_78 ?_
  refine y_put cx (pc := 79) (j := 20) (ty := .int) (le_b rfl) ck_Md kw_768 (le_b rfl) rfl (t_Md_ok 20 (le_b rfl)) rfl rfl (pf_58_20 Δ) d_m_emit_79 ?_
  refine y_aload_n cx (pc := 82) d_m_emit_82 rfl 1 rfl ?_
  refine y_get cx (pc := 83) (j := 20) (v := .int ((σ 58 20) + 1)) (le_b rfl) ck_Md kw_768 (le_b rfl) (gf_58_20 Δ _) d_m_emit_83 ?_
  refine y_iconst cx (pc := 86) ic_1 d_m_emit_86 ?_
  refine y_isub cx (pc := 87) d_m_emit_87 ?_
  exact y_iret cx (pc := 88) rfl d_m_emit_88 (le_b rfl) (le_b rfl) h
theorem c_m_emit {l : Launch} (hfl : l.flags = flags0) (Δ : Ly) (p1 : Int32) (p2 : Int32) (p3 : Int32) (p4 : Int32) (p5 : Int32) (σ : Sg) (Q : Int32 → Sg → Prop) (h : w_m_emit p1 p2 p3 p4 p5 σ Q) : Ct l Δ mi_m_emit [.ref (Δ.1 58), .int p1, .int p2, .int p3, .int p4, .int p5] σ (qI Q) noE :=
  Ct.of hfl (by show plainFor ⟨"GuardedMovesModel", "emit", "(IIIII)I"⟩ = true; decide +kernel) rfl (le_b rfl) (fun G hl cx => b_m_emit cx p1 p2 p3 p4 p5 σ h)
def mi_m_fresh1 : Mi := ("GuardedMovesModel", prog_6_method_25_code, 1, [], (some .int), 0, 0, 0, 0, ⟨"GuardedMovesModel", "fresh1", "()I"⟩)
theorem d_m_fresh1_0 : decode prog_6_method_25_code 0 = .ok (.aload_n 0, 1) := by decide +kernel
theorem d_m_fresh1_1 : decode prog_6_method_25_code 1 = .ok (.dup, 1) := by decide +kernel
theorem d_m_fresh1_2 : decode prog_6_method_25_code 2 = .ok (.getfield 47, 3) := by decide +kernel
theorem d_m_fresh1_5 : decode prog_6_method_25_code 5 = .ok (.iconst 1, 1) := by decide +kernel
theorem d_m_fresh1_6 : decode prog_6_method_25_code 6 = .ok (.iadd, 1) := by decide +kernel
theorem d_m_fresh1_7 : decode prog_6_method_25_code 7 = .ok (.putfield 47, 3) := by decide +kernel
theorem d_m_fresh1_10 : decode prog_6_method_25_code 10 = .ok (.aload_n 0, 1) := by decide +kernel
theorem d_m_fresh1_11 : decode prog_6_method_25_code 11 = .ok (.getfield 47, 3) := by decide +kernel
theorem d_m_fresh1_14 : decode prog_6_method_25_code 14 = .ok (.iconst 1, 1) := by decide +kernel
theorem d_m_fresh1_15 : decode prog_6_method_25_code 15 = .ok (.isub, 1) := by decide +kernel
theorem d_m_fresh1_16 : decode prog_6_method_25_code 16 = .ok (.ireturn, 1) := by decide +kernel
theorem kc_m_fresh1 : Kw (m_w (mi_m_fresh1 )) := ⟨(in_t5 (List.mem_of_getElem? (i := 35) rfl)), rfl⟩
theorem mv_m_fresh1 : MV (mi_m_fresh1 ) "GuardedMovesModel" 0 := ⟨kw_994, ks_58, kc_m_fresh1 , kw_7, ⟨⟨(by show ("GuardedMovesModel" : String) ≠ "java/lang/invoke/MethodHandle"; decide), (by show ("GuardedMovesModel" : String) ≠ "java/lang/invoke/VarHandle"; decide)⟩, (by show (parseMethodDescriptor "()I").map (fun d => d.parameters.length) = some 0; decide +kernel)⟩⟩
def w_m_fresh1 (σ : Sg) (Q : Int32 → Sg → Prop) : Prop := Q (((σ 58 21) + 1) - 1) (up σ 58 21 ((σ 58 21) + 1))
theorem b_m_fresh1 {Δ : Ly} {G : Gm} {Q : Int32 → Sg → Prop} (cx : Cx Δ G mi_m_fresh1) (σ : Sg) (h : w_m_fresh1 σ Q) : Y Δ G mi_m_fresh1 (qI Q) noE 0 0 σ 0 [(0, .ref (Δ.1 58))] [] := by
  unfold w_m_fresh1 at h
  refine y_aload_n cx (pc := 0) d_m_fresh1_0 rfl 0 rfl ?_
  refine y_dup cx (pc := 1) rfl d_m_fresh1_1 ?_
  refine y_get cx (pc := 2) (j := 21) (v := .int (σ 58 21)) (le_b rfl) ck_Md kw_769 (le_b rfl) (gf_58_21 Δ _) d_m_fresh1_2 ?_
  refine y_iconst cx (pc := 5) ic_1 d_m_fresh1_5 ?_
  refine y_iadd cx (pc := 6) d_m_fresh1_6 ?_
  refine y_put cx (pc := 7) (j := 21) (ty := .int) (le_b rfl) ck_Md kw_769 (le_b rfl) rfl (t_Md_ok 21 (le_b rfl)) rfl rfl (pf_58_21 Δ) d_m_fresh1_7 ?_
  refine y_aload_n cx (pc := 10) d_m_fresh1_10 rfl 0 rfl ?_
  refine y_get cx (pc := 11) (j := 21) (v := .int ((σ 58 21) + 1)) (le_b rfl) ck_Md kw_769 (le_b rfl) (gf_58_21 Δ _) d_m_fresh1_11 ?_
  refine y_iconst cx (pc := 14) ic_1 d_m_fresh1_14 ?_
  refine y_isub cx (pc := 15) d_m_fresh1_15 ?_
  exact y_iret cx (pc := 16) rfl d_m_fresh1_16 (le_b rfl) (le_b rfl) h
theorem c_m_fresh1 {l : Launch} (hfl : l.flags = flags0) (Δ : Ly) (σ : Sg) (Q : Int32 → Sg → Prop) (h : w_m_fresh1 σ Q) : Ct l Δ mi_m_fresh1 [.ref (Δ.1 58)] σ (qI Q) noE :=
  Ct.of hfl (by show plainFor ⟨"GuardedMovesModel", "fresh1", "()I"⟩ = true; decide +kernel) rfl (le_b rfl) (fun G hl cx => b_m_fresh1 cx σ h)
def mi_m_guarded : Mi := ("GuardedMovesModel", prog_6_method_29_code, 5, [], (some .int), 1, 30, 0, 0, ⟨"GuardedMovesModel", "guarded", "(II)I"⟩)
theorem d_m_guarded_0 : decode prog_6_method_29_code 0 = .ok (.iload_n 1, 1) := by decide +kernel
theorem d_m_guarded_1 : decode prog_6_method_29_code 1 = .ok (.ifCond .eq 14, 3) := by decide +kernel
theorem d_m_guarded_4 : decode prog_6_method_29_code 4 = .ok (.aload_n 0, 1) := by decide +kernel
theorem d_m_guarded_5 : decode prog_6_method_29_code 5 = .ok (.getfield 63, 3) := by decide +kernel
theorem d_m_guarded_8 : decode prog_6_method_29_code 8 = .ok (.iload_n 1, 1) := by decide +kernel
theorem d_m_guarded_9 : decode prog_6_method_29_code 9 = .ok (.iconst 1, 1) := by decide +kernel
theorem d_m_guarded_10 : decode prog_6_method_29_code 10 = .ok (.isub, 1) := by decide +kernel
theorem d_m_guarded_11 : decode prog_6_method_29_code 11 = .ok (.baload, 1) := by decide +kernel
theorem d_m_guarded_12 : decode prog_6_method_29_code 12 = .ok (.ifCond .ne 5, 3) := by decide +kernel
theorem d_m_guarded_15 : decode prog_6_method_29_code 15 = .ok (.iload_n 2, 1) := by decide +kernel
theorem d_m_guarded_16 : decode prog_6_method_29_code 16 = .ok (.ireturn, 1) := by decide +kernel
theorem d_m_guarded_17 : decode prog_6_method_29_code 17 = .ok (.aload_n 0, 1) := by decide +kernel
theorem d_m_guarded_18 : decode prog_6_method_29_code 18 = .ok (.invokevirtual 205, 3) := by decide +kernel
theorem d_m_guarded_21 : decode prog_6_method_29_code 21 = .ok (.istore_n 3, 1) := by decide +kernel
theorem d_m_guarded_22 : decode prog_6_method_29_code 22 = .ok (.aload_n 0, 1) := by decide +kernel
theorem d_m_guarded_23 : decode prog_6_method_29_code 23 = .ok (.bipush 7, 2) := by decide +kernel
theorem d_m_guarded_25 : decode prog_6_method_29_code 25 = .ok (.iload_n 3, 1) := by decide +kernel
theorem d_m_guarded_26 : decode prog_6_method_29_code 26 = .ok (.aload_n 0, 1) := by decide +kernel
theorem d_m_guarded_27 : decode prog_6_method_29_code 27 = .ok (.getfield 69, 3) := by decide +kernel
theorem d_m_guarded_30 : decode prog_6_method_29_code 30 = .ok (.iload_n 1, 1) := by decide +kernel
theorem d_m_guarded_31 : decode prog_6_method_29_code 31 = .ok (.iconst 1, 1) := by decide +kernel
theorem d_m_guarded_32 : decode prog_6_method_29_code 32 = .ok (.isub, 1) := by decide +kernel
theorem d_m_guarded_33 : decode prog_6_method_29_code 33 = .ok (.iaload, 1) := by decide +kernel
theorem d_m_guarded_34 : decode prog_6_method_29_code 34 = .ok (.iload_n 2, 1) := by decide +kernel
theorem d_m_guarded_35 : decode prog_6_method_29_code 35 = .ok (.iconst 0, 1) := by decide +kernel
theorem d_m_guarded_36 : decode prog_6_method_29_code 36 = .ok (.invokevirtual 208, 3) := by decide +kernel
theorem d_m_guarded_39 : decode prog_6_method_29_code 39 = .ok (.istore 4, 2) := by decide +kernel
theorem d_m_guarded_41 : decode prog_6_method_29_code 41 = .ok (.iload_n 3, 1) := by decide +kernel
theorem d_m_guarded_42 : decode prog_6_method_29_code 42 = .ok (.ireturn, 1) := by decide +kernel
theorem kc_m_guarded : Kw (m_w (mi_m_guarded )) := ⟨(in_t5 (List.mem_of_getElem? (i := 55) rfl)), rfl⟩
theorem mv_m_guarded : MV (mi_m_guarded ) "GuardedMovesModel" 2 := ⟨kw_1014, ks_63, kc_m_guarded , kw_7, ⟨⟨(by show ("GuardedMovesModel" : String) ≠ "java/lang/invoke/MethodHandle"; decide), (by show ("GuardedMovesModel" : String) ≠ "java/lang/invoke/VarHandle"; decide)⟩, (by show (parseMethodDescriptor "(II)I").map (fun d => d.parameters.length) = some 2; decide +kernel)⟩⟩
def w_m_guarded_15 (Q : Int32 → Sg → Prop) (v2 : Int32) (σ : Sg) : Prop := Q v2 σ
theorem b_m_guarded_15 {Δ : Ly} {G : Gm} {Q : Int32 → Sg → Prop} (cx : Cx Δ G mi_m_guarded) : ∀ (v2 : Int32) (σ : Sg), w_m_guarded_15 Q v2 σ → Y Δ G mi_m_guarded (qI Q) noE 0 0 σ 15 [(2, .int v2)] [] := by
  intro v2 σ h
  unfold w_m_guarded_15 at h
  refine y_iload_n cx (pc := 15) d_m_guarded_15 rfl 0 rfl ?_
  exact y_iret cx (pc := 16) rfl d_m_guarded_16 (le_b rfl) (le_b rfl) h
def w_m_guarded (p1 : Int32) (p2 : Int32) (σ : Sg) (Q : Int32 → Sg → Prop) : Prop := (p1 = 0 → (w_m_guarded_15 Q p2 σ)) ∧ (¬ p1 = 0 → (vp_in (p1 - 1) 8 ∧ ((¬ (σ 75 ((p1 - 1).toNatClampNeg)) = 0 → (w_m_fresh1 σ (fun x1 σ2 => vp_in (p1 - 1) 8 ∧ (w_m_emit 7 x1 (σ2 77 ((p1 - 1).toNatClampNeg)) p2 0 σ2 (fun x3 σ4 => Q x1 σ4))))) ∧ ((σ 75 ((p1 - 1).toNatClampNeg)) = 0 → (w_m_guarded_15 Q p2 σ)))))
theorem b_m_guarded {Δ : Ly} {G : Gm} {Q : Int32 → Sg → Prop} (cx : Cx Δ G mi_m_guarded) (p1 : Int32) (p2 : Int32) (σ : Sg) (h : w_m_guarded p1 p2 σ Q) : Y Δ G mi_m_guarded (qI Q) noE 0 0 σ 0 [(0, .ref (Δ.1 58)), (1, .int p1), (2, .int p2)] [] := by
  unfold w_m_guarded at h
  refine y_iload_n cx (pc := 0) d_m_guarded_0 rfl 1 rfl ?_
  refine y_if_eq cx (pc := 1) (tgt := 15) d_m_guarded_1 (by decide) (fun hc => ?_) (fun hc => ?_)
  · replace h := h.1 hc
    refine y_sub [2] rfl ?_
    exact b_m_guarded_15 cx p2 σ h
  · replace h := h.2 hc
    refine y_aload_n cx (pc := 4) d_m_guarded_4 rfl 0 rfl ?_
    refine y_get cx (pc := 5) (j := 29) (v := .ref (Δ.1 75)) (le_b rfl) ck_Md kw_777 (le_b rfl) (gf_58_29 Δ _) d_m_guarded_5 ?_
    refine y_iload_n cx (pc := 8) d_m_guarded_8 rfl 1 rfl ?_
    refine y_iconst cx (pc := 9) ic_1 d_m_guarded_9 ?_
    refine y_isub cx (pc := 10) d_m_guarded_10 ?_
    obtain ⟨h0, h⟩ := h
    refine y_zald cx (pc := 11) ⟨(le_b rfl), fun _ => rfl⟩ h0 d_m_guarded_11 ?_
    refine y_if_ne cx (pc := 12) (tgt := 17) d_m_guarded_12 (by decide) (fun hc => ?_) (fun hc => ?_)
    · replace h := h.1 hc
      refine y_aload_n cx (pc := 17) d_m_guarded_17 rfl 0 rfl ?_
      refine y_vI cx (pc := 18) (st := []) [] (c_m_fresh1 cx.fl Δ _ _ h) mv_m_fresh1 kw_992 (oc_58 Δ) ck_Md rfl (le_b rfl) (le_b rfl) (le_b rfl) (le_b rfl) (le_b rfl) d_m_guarded_18 (fun x1 σ2 h => ?_) (fun x σ2 h => yt_no h)
      refine y_istore_n (lv' := [(3, .int x1), (0, .ref (Δ.1 58)), (1, .int p1), (2, .int p2)]) cx (pc := 21) d_m_guarded_21 rfl (le_b rfl) rfl ?_
      refine y_aload_n cx (pc := 22) d_m_guarded_22 rfl 1 rfl ?_
      refine y_bipush cx (pc := 23) bp_7 d_m_guarded_23 ?_
      refine y_iload_n cx (pc := 25) d_m_guarded_25 rfl 0 rfl ?_
      refine y_aload_n cx (pc := 26) d_m_guarded_26 rfl 1 rfl ?_
      refine y_get cx (pc := 27) (j := 31) (v := .ref (Δ.1 77)) (le_b rfl) ck_Md kw_779 (le_b rfl) (gf_58_31 Δ _) d_m_guarded_27 ?_
      refine y_iload_n cx (pc := 30) d_m_guarded_30 rfl 2 rfl ?_
      refine y_iconst cx (pc := 31) ic_1 d_m_guarded_31 ?_
      refine y_isub cx (pc := 32) d_m_guarded_32 ?_
      obtain ⟨h0, h⟩ := h
      refine y_iald cx (pc := 33) ⟨(le_b rfl), fun _ => rfl⟩ h0 d_m_guarded_33 ?_
      refine y_iload_n cx (pc := 34) d_m_guarded_34 rfl 3 rfl ?_
      refine y_iconst cx (pc := 35) ic_0 d_m_guarded_35 ?_
      refine y_vI cx (pc := 36) (st := []) [.int 7, .int x1, .int (σ2 77 ((p1 - 1).toNatClampNeg)), .int p2, .int 0] (c_m_emit cx.fl Δ 7 x1 (σ2 77 ((p1 - 1).toNatClampNeg)) p2 0 _ _ h) mv_m_emit kw_996 (oc_58 Δ) ck_Md rfl (le_b rfl) (le_b rfl) (le_b rfl) (le_b rfl) (le_b rfl) d_m_guarded_36 (fun x3 σ4 h => ?_) (fun x σ4 h => yt_no h)
      refine y_istore (lv' := [(4, .int x3), (3, .int x1), (0, .ref (Δ.1 58)), (1, .int p1), (2, .int p2)]) cx (pc := 39) d_m_guarded_39 (le_b rfl) rfl ?_
      refine y_iload_n cx (pc := 41) d_m_guarded_41 rfl 1 rfl ?_
      exact y_iret cx (pc := 42) rfl d_m_guarded_42 (le_b rfl) (le_b rfl) h
    · replace h := h.2 hc
      refine y_sub [2] rfl ?_
      exact b_m_guarded_15 cx p2 σ h
theorem c_m_guarded {l : Launch} (hfl : l.flags = flags0) (Δ : Ly) (p1 : Int32) (p2 : Int32) (σ : Sg) (Q : Int32 → Sg → Prop) (h : w_m_guarded p1 p2 σ Q) : Ct l Δ mi_m_guarded [.ref (Δ.1 58), .int p1, .int p2] σ (qI Q) noE :=
  Ct.of hfl (by show plainFor ⟨"GuardedMovesModel", "guarded", "(II)I"⟩ = true; decide +kernel) rfl (le_b rfl) (fun G hl cx => b_m_guarded cx p1 p2 σ h)
def mi_m_setNew : Mi := ("GuardedMovesModel", prog_6_method_26_code, 4, [], (some .int), 1, 30, 0, 0, ⟨"GuardedMovesModel", "setNew", "(I)I"⟩)
theorem d_m_setNew_0 : decode prog_6_method_26_code 0 = .ok (.aload_n 0, 1) := by decide +kernel
theorem d_m_setNew_1 : decode prog_6_method_26_code 1 = .ok (.invokevirtual 205, 3) := by decide +kernel
theorem d_m_setNew_4 : decode prog_6_method_26_code 4 = .ok (.istore_n 2, 1) := by decide +kernel
theorem d_m_setNew_5 : decode prog_6_method_26_code 5 = .ok (.aload_n 0, 1) := by decide +kernel
theorem d_m_setNew_6 : decode prog_6_method_26_code 6 = .ok (.iconst 0, 1) := by decide +kernel
theorem d_m_setNew_7 : decode prog_6_method_26_code 7 = .ok (.iload_n 2, 1) := by decide +kernel
theorem d_m_setNew_8 : decode prog_6_method_26_code 8 = .ok (.iload_n 1, 1) := by decide +kernel
theorem d_m_setNew_9 : decode prog_6_method_26_code 9 = .ok (.iconst 0, 1) := by decide +kernel
theorem d_m_setNew_10 : decode prog_6_method_26_code 10 = .ok (.iconst 0, 1) := by decide +kernel
theorem d_m_setNew_11 : decode prog_6_method_26_code 11 = .ok (.invokevirtual 208, 3) := by decide +kernel
theorem d_m_setNew_14 : decode prog_6_method_26_code 14 = .ok (.istore_n 3, 1) := by decide +kernel
theorem d_m_setNew_15 : decode prog_6_method_26_code 15 = .ok (.iload_n 2, 1) := by decide +kernel
theorem d_m_setNew_16 : decode prog_6_method_26_code 16 = .ok (.ireturn, 1) := by decide +kernel
theorem kc_m_setNew : Kw (m_w (mi_m_setNew )) := ⟨(in_t5 (List.mem_of_getElem? (i := 51) rfl)), rfl⟩
theorem mv_m_setNew : MV (mi_m_setNew ) "GuardedMovesModel" 1 := ⟨kw_1010, ks_62, kc_m_setNew , kw_7, ⟨⟨(by show ("GuardedMovesModel" : String) ≠ "java/lang/invoke/MethodHandle"; decide), (by show ("GuardedMovesModel" : String) ≠ "java/lang/invoke/VarHandle"; decide)⟩, (by show (parseMethodDescriptor "(I)I").map (fun d => d.parameters.length) = some 1; decide +kernel)⟩⟩
def w_m_setNew (p1 : Int32) (σ : Sg) (Q : Int32 → Sg → Prop) : Prop := w_m_fresh1 σ (fun x1 σ2 => w_m_emit 0 x1 p1 0 0 σ2 (fun x3 σ4 => Q x1 σ4))
theorem b_m_setNew {Δ : Ly} {G : Gm} {Q : Int32 → Sg → Prop} (cx : Cx Δ G mi_m_setNew) (p1 : Int32) (σ : Sg) (h : w_m_setNew p1 σ Q) : Y Δ G mi_m_setNew (qI Q) noE 0 0 σ 0 [(0, .ref (Δ.1 58)), (1, .int p1)] [] := by
  unfold w_m_setNew at h
  refine y_aload_n cx (pc := 0) d_m_setNew_0 rfl 0 rfl ?_
  refine y_vI cx (pc := 1) (st := []) [] (c_m_fresh1 cx.fl Δ _ _ h) mv_m_fresh1 kw_992 (oc_58 Δ) ck_Md rfl (le_b rfl) (le_b rfl) (le_b rfl) (le_b rfl) (le_b rfl) d_m_setNew_1 (fun x1 σ2 h => ?_) (fun x σ2 h => yt_no h)
  refine y_istore_n (lv' := [(2, .int x1), (0, .ref (Δ.1 58)), (1, .int p1)]) cx (pc := 4) d_m_setNew_4 rfl (le_b rfl) rfl ?_
  refine y_aload_n cx (pc := 5) d_m_setNew_5 rfl 1 rfl ?_
  refine y_iconst cx (pc := 6) ic_0 d_m_setNew_6 ?_
  refine y_iload_n cx (pc := 7) d_m_setNew_7 rfl 0 rfl ?_
  refine y_iload_n cx (pc := 8) d_m_setNew_8 rfl 2 rfl ?_
  refine y_iconst cx (pc := 9) ic_0 d_m_setNew_9 ?_
  refine y_iconst cx (pc := 10) ic_0 d_m_setNew_10 ?_
  refine y_vI cx (pc := 11) (st := []) [.int 0, .int x1, .int p1, .int 0, .int 0] (c_m_emit cx.fl Δ 0 x1 p1 0 0 _ _ h) mv_m_emit kw_996 (oc_58 Δ) ck_Md rfl (le_b rfl) (le_b rfl) (le_b rfl) (le_b rfl) (le_b rfl) d_m_setNew_11 (fun x3 σ4 h => ?_) (fun x σ4 h => yt_no h)
  refine y_istore_n (lv' := [(3, .int x3), (2, .int x1), (0, .ref (Δ.1 58)), (1, .int p1)]) cx (pc := 14) d_m_setNew_14 rfl (le_b rfl) rfl ?_
  refine y_iload_n cx (pc := 15) d_m_setNew_15 rfl 1 rfl ?_
  exact y_iret cx (pc := 16) rfl d_m_setNew_16 (le_b rfl) (le_b rfl) h
theorem c_m_setNew {l : Launch} (hfl : l.flags = flags0) (Δ : Ly) (p1 : Int32) (σ : Sg) (Q : Int32 → Sg → Prop) (h : w_m_setNew p1 σ Q) : Ct l Δ mi_m_setNew [.ref (Δ.1 58), .int p1] σ (qI Q) noE :=
  Ct.of hfl (by show plainFor ⟨"GuardedMovesModel", "setNew", "(I)I"⟩ = true; decide +kernel) rfl (le_b rfl) (fun G hl cx => b_m_setNew cx p1 σ h)
