def mi_m_doStep : Mi := ("GuardedMovesModel", prog_6_method_58_code, 6, [], (some .int), 2, 56, 0, 0, ⟨"GuardedMovesModel", "doStep", "(I)I"⟩)
theorem d_m_doStep_0 : decode prog_6_method_58_code 0 = .ok (.bipush 6, 2) := by decide +kernel
theorem d_m_doStep_2 : decode prog_6_method_58_code 2 = .ok (.iload_n 1, 1) := by decide +kernel
theorem d_m_doStep_3 : decode prog_6_method_58_code 3 = .ok (.imul, 1) := by decide +kernel
theorem d_m_doStep_4 : decode prog_6_method_58_code 4 = .ok (.istore_n 2, 1) := by decide +kernel
theorem d_m_doStep_5 : decode prog_6_method_58_code 5 = .ok (.aload_n 0, 1) := by decide +kernel
theorem d_m_doStep_6 : decode prog_6_method_58_code 6 = .ok (.getfield 44, 3) := by decide +kernel
theorem d_m_doStep_9 : decode prog_6_method_58_code 9 = .ok (.iload_n 2, 1) := by decide +kernel
theorem d_m_doStep_10 : decode prog_6_method_58_code 10 = .ok (.iconst 1, 1) := by decide +kernel
theorem d_m_doStep_11 : decode prog_6_method_58_code 11 = .ok (.iadd, 1) := by decide +kernel
theorem d_m_doStep_12 : decode prog_6_method_58_code 12 = .ok (.iaload, 1) := by decide +kernel
theorem d_m_doStep_13 : decode prog_6_method_58_code 13 = .ok (.istore_n 3, 1) := by decide +kernel
theorem d_m_doStep_14 : decode prog_6_method_58_code 14 = .ok (.aload_n 0, 1) := by decide +kernel
theorem d_m_doStep_15 : decode prog_6_method_58_code 15 = .ok (.getfield 44, 3) := by decide +kernel
theorem d_m_doStep_18 : decode prog_6_method_58_code 18 = .ok (.iload_n 2, 1) := by decide +kernel
theorem d_m_doStep_19 : decode prog_6_method_58_code 19 = .ok (.iconst 5, 1) := by decide +kernel
theorem d_m_doStep_20 : decode prog_6_method_58_code 20 = .ok (.iadd, 1) := by decide +kernel
theorem d_m_doStep_21 : decode prog_6_method_58_code 21 = .ok (.iaload, 1) := by decide +kernel
theorem d_m_doStep_22 : decode prog_6_method_58_code 22 = .ok (.istore 4, 2) := by decide +kernel
theorem d_m_doStep_24 : decode prog_6_method_58_code 24 = .ok (.aload_n 0, 1) := by decide +kernel
theorem d_m_doStep_25 : decode prog_6_method_58_code 25 = .ok (.getfield 44, 3) := by decide +kernel
theorem d_m_doStep_28 : decode prog_6_method_58_code 28 = .ok (.iload_n 2, 1) := by decide +kernel
theorem d_m_doStep_29 : decode prog_6_method_58_code 29 = .ok (.iaload, 1) := by decide +kernel
theorem d_m_doStep_30 : decode prog_6_method_58_code 30 = .ok (.tableswitch 328 0 18 #[90, 107, 328, 328, 328, 328, 328, 328, 328, 328, 328, 328, 328, 129, 183, 232, 274, 276, 300], 90) := by decide +kernel
theorem d_m_doStep_120 : decode prog_6_method_58_code 120 = .ok (.aload_n 0, 1) := by decide +kernel
theorem d_m_doStep_121 : decode prog_6_method_58_code 121 = .ok (.getfield 96, 3) := by decide +kernel
theorem d_m_doStep_124 : decode prog_6_method_58_code 124 = .ok (.iload_n 3, 1) := by decide +kernel
theorem d_m_doStep_125 : decode prog_6_method_58_code 125 = .ok (.aload_n 0, 1) := by decide +kernel
theorem d_m_doStep_126 : decode prog_6_method_58_code 126 = .ok (.getfield 44, 3) := by decide +kernel
theorem d_m_doStep_129 : decode prog_6_method_58_code 129 = .ok (.iload_n 2, 1) := by decide +kernel
theorem d_m_doStep_130 : decode prog_6_method_58_code 130 = .ok (.iconst 2, 1) := by decide +kernel
theorem d_m_doStep_131 : decode prog_6_method_58_code 131 = .ok (.iadd, 1) := by decide +kernel
theorem d_m_doStep_132 : decode prog_6_method_58_code 132 = .ok (.iaload, 1) := by decide +kernel
theorem d_m_doStep_133 : decode prog_6_method_58_code 133 = .ok (.iastore, 1) := by decide +kernel
theorem d_m_doStep_134 : decode prog_6_method_58_code 134 = .ok (.goto 288, 3) := by decide +kernel
theorem d_m_doStep_137 : decode prog_6_method_58_code 137 = .ok (.aload_n 0, 1) := by decide +kernel
theorem d_m_doStep_138 : decode prog_6_method_58_code 138 = .ok (.getfield 96, 3) := by decide +kernel
theorem d_m_doStep_141 : decode prog_6_method_58_code 141 = .ok (.iload_n 3, 1) := by decide +kernel
theorem d_m_doStep_142 : decode prog_6_method_58_code 142 = .ok (.aload_n 0, 1) := by decide +kernel
theorem d_m_doStep_143 : decode prog_6_method_58_code 143 = .ok (.getfield 96, 3) := by decide +kernel
theorem d_m_doStep_146 : decode prog_6_method_58_code 146 = .ok (.aload_n 0, 1) := by decide +kernel
theorem d_m_doStep_147 : decode prog_6_method_58_code 147 = .ok (.getfield 44, 3) := by decide +kernel
theorem d_m_doStep_150 : decode prog_6_method_58_code 150 = .ok (.iload_n 2, 1) := by decide +kernel
theorem d_m_doStep_151 : decode prog_6_method_58_code 151 = .ok (.iconst 2, 1) := by decide +kernel
theorem d_m_doStep_152 : decode prog_6_method_58_code 152 = .ok (.iadd, 1) := by decide +kernel
theorem d_m_doStep_153 : decode prog_6_method_58_code 153 = .ok (.iaload, 1) := by decide +kernel
theorem d_m_doStep_154 : decode prog_6_method_58_code 154 = .ok (.iaload, 1) := by decide +kernel
theorem d_m_doStep_155 : decode prog_6_method_58_code 155 = .ok (.iastore, 1) := by decide +kernel
theorem d_m_doStep_156 : decode prog_6_method_58_code 156 = .ok (.goto 266, 3) := by decide +kernel
theorem d_m_doStep_159 : decode prog_6_method_58_code 159 = .ok (.aload_n 0, 1) := by decide +kernel
theorem d_m_doStep_160 : decode prog_6_method_58_code 160 = .ok (.getfield 96, 3) := by decide +kernel
theorem d_m_doStep_163 : decode prog_6_method_58_code 163 = .ok (.iload_n 3, 1) := by decide +kernel
theorem d_m_doStep_164 : decode prog_6_method_58_code 164 = .ok (.aload_n 0, 1) := by decide +kernel
theorem d_m_doStep_165 : decode prog_6_method_58_code 165 = .ok (.getfield 96, 3) := by decide +kernel
theorem d_m_doStep_168 : decode prog_6_method_58_code 168 = .ok (.aload_n 0, 1) := by decide +kernel
theorem d_m_doStep_169 : decode prog_6_method_58_code 169 = .ok (.getfield 44, 3) := by decide +kernel
theorem d_m_doStep_172 : decode prog_6_method_58_code 172 = .ok (.iload_n 2, 1) := by decide +kernel
theorem d_m_doStep_173 : decode prog_6_method_58_code 173 = .ok (.iconst 2, 1) := by decide +kernel
theorem d_m_doStep_174 : decode prog_6_method_58_code 174 = .ok (.iadd, 1) := by decide +kernel
theorem d_m_doStep_175 : decode prog_6_method_58_code 175 = .ok (.iaload, 1) := by decide +kernel
theorem d_m_doStep_176 : decode prog_6_method_58_code 176 = .ok (.iaload, 1) := by decide +kernel
theorem d_m_doStep_177 : decode prog_6_method_58_code 177 = .ok (.ifCond .eq 19, 3) := by decide +kernel
theorem d_m_doStep_180 : decode prog_6_method_58_code 180 = .ok (.aload_n 0, 1) := by decide +kernel
theorem d_m_doStep_181 : decode prog_6_method_58_code 181 = .ok (.getfield 96, 3) := by decide +kernel
theorem d_m_doStep_184 : decode prog_6_method_58_code 184 = .ok (.aload_n 0, 1) := by decide +kernel
theorem d_m_doStep_185 : decode prog_6_method_58_code 185 = .ok (.getfield 44, 3) := by decide +kernel
theorem d_m_doStep_188 : decode prog_6_method_58_code 188 = .ok (.iload_n 2, 1) := by decide +kernel
theorem d_m_doStep_189 : decode prog_6_method_58_code 189 = .ok (.iconst 3, 1) := by decide +kernel
theorem d_m_doStep_190 : decode prog_6_method_58_code 190 = .ok (.iadd, 1) := by decide +kernel
theorem d_m_doStep_191 : decode prog_6_method_58_code 191 = .ok (.iaload, 1) := by decide +kernel
theorem d_m_doStep_192 : decode prog_6_method_58_code 192 = .ok (.iaload, 1) := by decide +kernel
theorem d_m_doStep_193 : decode prog_6_method_58_code 193 = .ok (.goto 16, 3) := by decide +kernel
theorem d_m_doStep_196 : decode prog_6_method_58_code 196 = .ok (.aload_n 0, 1) := by decide +kernel
theorem d_m_doStep_197 : decode prog_6_method_58_code 197 = .ok (.getfield 96, 3) := by decide +kernel
theorem d_m_doStep_200 : decode prog_6_method_58_code 200 = .ok (.aload_n 0, 1) := by decide +kernel
theorem d_m_doStep_201 : decode prog_6_method_58_code 201 = .ok (.getfield 44, 3) := by decide +kernel
theorem d_m_doStep_204 : decode prog_6_method_58_code 204 = .ok (.iload_n 2, 1) := by decide +kernel
theorem d_m_doStep_205 : decode prog_6_method_58_code 205 = .ok (.iconst 4, 1) := by decide +kernel
theorem d_m_doStep_206 : decode prog_6_method_58_code 206 = .ok (.iadd, 1) := by decide +kernel
theorem d_m_doStep_207 : decode prog_6_method_58_code 207 = .ok (.iaload, 1) := by decide +kernel
theorem d_m_doStep_208 : decode prog_6_method_58_code 208 = .ok (.iaload, 1) := by decide +kernel
theorem d_m_doStep_209 : decode prog_6_method_58_code 209 = .ok (.iastore, 1) := by decide +kernel
theorem d_m_doStep_210 : decode prog_6_method_58_code 210 = .ok (.goto 212, 3) := by decide +kernel
theorem d_m_doStep_213 : decode prog_6_method_58_code 213 = .ok (.aload_n 0, 1) := by decide +kernel
theorem d_m_doStep_214 : decode prog_6_method_58_code 214 = .ok (.aload_n 0, 1) := by decide +kernel
theorem d_m_doStep_215 : decode prog_6_method_58_code 215 = .ok (.getfield 96, 3) := by decide +kernel
theorem d_m_doStep_218 : decode prog_6_method_58_code 218 = .ok (.aload_n 0, 1) := by decide +kernel
theorem d_m_doStep_219 : decode prog_6_method_58_code 219 = .ok (.getfield 44, 3) := by decide +kernel
theorem d_m_doStep_222 : decode prog_6_method_58_code 222 = .ok (.iload_n 2, 1) := by decide +kernel
theorem d_m_doStep_223 : decode prog_6_method_58_code 223 = .ok (.iconst 2, 1) := by decide +kernel
theorem d_m_doStep_224 : decode prog_6_method_58_code 224 = .ok (.iadd, 1) := by decide +kernel
theorem d_m_doStep_225 : decode prog_6_method_58_code 225 = .ok (.iaload, 1) := by decide +kernel
theorem d_m_doStep_226 : decode prog_6_method_58_code 226 = .ok (.iaload, 1) := by decide +kernel
theorem d_m_doStep_227 : decode prog_6_method_58_code 227 = .ok (.iload 4, 2) := by decide +kernel
theorem d_m_doStep_229 : decode prog_6_method_58_code 229 = .ok (.invokevirtual 301, 3) := by decide +kernel
theorem d_m_doStep_232 : decode prog_6_method_58_code 232 = .ok (.ifCond .eq 190, 3) := by decide +kernel
theorem d_m_doStep_235 : decode prog_6_method_58_code 235 = .ok (.aload_n 0, 1) := by decide +kernel
theorem d_m_doStep_236 : decode prog_6_method_58_code 236 = .ok (.getfield 96, 3) := by decide +kernel
theorem d_m_doStep_239 : decode prog_6_method_58_code 239 = .ok (.iload_n 3, 1) := by decide +kernel
theorem d_m_doStep_240 : decode prog_6_method_58_code 240 = .ok (.aload_n 0, 1) := by decide +kernel
theorem d_m_doStep_241 : decode prog_6_method_58_code 241 = .ok (.getfield 87, 3) := by decide +kernel
theorem d_m_doStep_244 : decode prog_6_method_58_code 244 = .ok (.aload_n 0, 1) := by decide +kernel
theorem d_m_doStep_245 : decode prog_6_method_58_code 245 = .ok (.getfield 96, 3) := by decide +kernel
theorem d_m_doStep_248 : decode prog_6_method_58_code 248 = .ok (.aload_n 0, 1) := by decide +kernel
theorem d_m_doStep_249 : decode prog_6_method_58_code 249 = .ok (.getfield 44, 3) := by decide +kernel
theorem d_m_doStep_252 : decode prog_6_method_58_code 252 = .ok (.iload_n 2, 1) := by decide +kernel
theorem d_m_doStep_253 : decode prog_6_method_58_code 253 = .ok (.iconst 2, 1) := by decide +kernel
theorem d_m_doStep_254 : decode prog_6_method_58_code 254 = .ok (.iadd, 1) := by decide +kernel
theorem d_m_doStep_255 : decode prog_6_method_58_code 255 = .ok (.iaload, 1) := by decide +kernel
theorem d_m_doStep_256 : decode prog_6_method_58_code 256 = .ok (.iaload, 1) := by decide +kernel
theorem d_m_doStep_257 : decode prog_6_method_58_code 257 = .ok (.iaload, 1) := by decide +kernel
theorem d_m_doStep_258 : decode prog_6_method_58_code 258 = .ok (.iastore, 1) := by decide +kernel
theorem d_m_doStep_259 : decode prog_6_method_58_code 259 = .ok (.goto 163, 3) := by decide +kernel
theorem d_m_doStep_262 : decode prog_6_method_58_code 262 = .ok (.aload_n 0, 1) := by decide +kernel
theorem d_m_doStep_263 : decode prog_6_method_58_code 263 = .ok (.aload_n 0, 1) := by decide +kernel
theorem d_m_doStep_264 : decode prog_6_method_58_code 264 = .ok (.getfield 96, 3) := by decide +kernel
theorem d_m_doStep_267 : decode prog_6_method_58_code 267 = .ok (.iload_n 3, 1) := by decide +kernel
theorem d_m_doStep_268 : decode prog_6_method_58_code 268 = .ok (.iaload, 1) := by decide +kernel
theorem d_m_doStep_269 : decode prog_6_method_58_code 269 = .ok (.iload 4, 2) := by decide +kernel
theorem d_m_doStep_271 : decode prog_6_method_58_code 271 = .ok (.invokevirtual 301, 3) := by decide +kernel
theorem d_m_doStep_274 : decode prog_6_method_58_code 274 = .ok (.ifCond .eq 148, 3) := by decide +kernel
theorem d_m_doStep_277 : decode prog_6_method_58_code 277 = .ok (.aload_n 0, 1) := by decide +kernel
theorem d_m_doStep_278 : decode prog_6_method_58_code 278 = .ok (.getfield 87, 3) := by decide +kernel
theorem d_m_doStep_281 : decode prog_6_method_58_code 281 = .ok (.aload_n 0, 1) := by decide +kernel
theorem d_m_doStep_282 : decode prog_6_method_58_code 282 = .ok (.getfield 96, 3) := by decide +kernel
theorem d_m_doStep_285 : decode prog_6_method_58_code 285 = .ok (.iload_n 3, 1) := by decide +kernel
theorem d_m_doStep_286 : decode prog_6_method_58_code 286 = .ok (.iaload, 1) := by decide +kernel
theorem d_m_doStep_287 : decode prog_6_method_58_code 287 = .ok (.aload_n 0, 1) := by decide +kernel
theorem d_m_doStep_288 : decode prog_6_method_58_code 288 = .ok (.getfield 96, 3) := by decide +kernel
theorem d_m_doStep_291 : decode prog_6_method_58_code 291 = .ok (.aload_n 0, 1) := by decide +kernel
theorem d_m_doStep_292 : decode prog_6_method_58_code 292 = .ok (.getfield 44, 3) := by decide +kernel
theorem d_m_doStep_295 : decode prog_6_method_58_code 295 = .ok (.iload_n 2, 1) := by decide +kernel
theorem d_m_doStep_296 : decode prog_6_method_58_code 296 = .ok (.iconst 2, 1) := by decide +kernel
theorem d_m_doStep_297 : decode prog_6_method_58_code 297 = .ok (.iadd, 1) := by decide +kernel
theorem d_m_doStep_298 : decode prog_6_method_58_code 298 = .ok (.iaload, 1) := by decide +kernel
theorem d_m_doStep_299 : decode prog_6_method_58_code 299 = .ok (.iaload, 1) := by decide +kernel
theorem d_m_doStep_300 : decode prog_6_method_58_code 300 = .ok (.iastore, 1) := by decide +kernel
theorem d_m_doStep_301 : decode prog_6_method_58_code 301 = .ok (.goto 121, 3) := by decide +kernel
theorem d_m_doStep_304 : decode prog_6_method_58_code 304 = .ok (.iload_n 3, 1) := by decide +kernel
theorem d_m_doStep_305 : decode prog_6_method_58_code 305 = .ok (.ireturn, 1) := by decide +kernel
theorem d_m_doStep_306 : decode prog_6_method_58_code 306 = .ok (.aload_n 0, 1) := by decide +kernel
theorem d_m_doStep_307 : decode prog_6_method_58_code 307 = .ok (.getfield 96, 3) := by decide +kernel
theorem d_m_doStep_310 : decode prog_6_method_58_code 310 = .ok (.iload_n 3, 1) := by decide +kernel
theorem d_m_doStep_311 : decode prog_6_method_58_code 311 = .ok (.iaload, 1) := by decide +kernel
theorem d_m_doStep_312 : decode prog_6_method_58_code 312 = .ok (.ifCond .ne 14, 3) := by decide +kernel
theorem d_m_doStep_315 : decode prog_6_method_58_code 315 = .ok (.aload_n 0, 1) := by decide +kernel
theorem d_m_doStep_316 : decode prog_6_method_58_code 316 = .ok (.getfield 44, 3) := by decide +kernel
theorem d_m_doStep_319 : decode prog_6_method_58_code 319 = .ok (.iload_n 2, 1) := by decide +kernel
theorem d_m_doStep_320 : decode prog_6_method_58_code 320 = .ok (.iconst 2, 1) := by decide +kernel
theorem d_m_doStep_321 : decode prog_6_method_58_code 321 = .ok (.iadd, 1) := by decide +kernel
theorem d_m_doStep_322 : decode prog_6_method_58_code 322 = .ok (.iaload, 1) := by decide +kernel
theorem d_m_doStep_323 : decode prog_6_method_58_code 323 = .ok (.goto 6, 3) := by decide +kernel
theorem d_m_doStep_326 : decode prog_6_method_58_code 326 = .ok (.iload_n 1, 1) := by decide +kernel
theorem d_m_doStep_327 : decode prog_6_method_58_code 327 = .ok (.iconst 1, 1) := by decide +kernel
theorem d_m_doStep_328 : decode prog_6_method_58_code 328 = .ok (.iadd, 1) := by decide +kernel
theorem d_m_doStep_329 : decode prog_6_method_58_code 329 = .ok (.ireturn, 1) := by decide +kernel
theorem d_m_doStep_330 : decode prog_6_method_58_code 330 = .ok (.aload_n 0, 1) := by decide +kernel
theorem d_m_doStep_331 : decode prog_6_method_58_code 331 = .ok (.getfield 90, 3) := by decide +kernel
theorem d_m_doStep_334 : decode prog_6_method_58_code 334 = .ok (.aload_n 0, 1) := by decide +kernel
theorem d_m_doStep_335 : decode prog_6_method_58_code 335 = .ok (.getfield 282, 3) := by decide +kernel
theorem d_m_doStep_338 : decode prog_6_method_58_code 338 = .ok (.aload_n 0, 1) := by decide +kernel
theorem d_m_doStep_339 : decode prog_6_method_58_code 339 = .ok (.getfield 96, 3) := by decide +kernel
theorem d_m_doStep_342 : decode prog_6_method_58_code 342 = .ok (.iload_n 3, 1) := by decide +kernel
theorem d_m_doStep_343 : decode prog_6_method_58_code 343 = .ok (.iaload, 1) := by decide +kernel
theorem d_m_doStep_344 : decode prog_6_method_58_code 344 = .ok (.iastore, 1) := by decide +kernel
theorem d_m_doStep_345 : decode prog_6_method_58_code 345 = .ok (.aload_n 0, 1) := by decide +kernel
theorem d_m_doStep_346 : decode prog_6_method_58_code 346 = .ok (.dup, 1) := by decide +kernel
theorem d_m_doStep_347 : decode prog_6_method_58_code 347 = .ok (.getfield 282, 3) := by decide +kernel
theorem d_m_doStep_350 : decode prog_6_method_58_code 350 = .ok (.iconst 1, 1) := by decide +kernel
theorem d_m_doStep_351 : decode prog_6_method_58_code 351 = .ok (.iadd, 1) := by decide +kernel
theorem d_m_doStep_352 : decode prog_6_method_58_code 352 = .ok (.putfield 282, 3) := by decide +kernel
theorem d_m_doStep_355 : decode prog_6_method_58_code 355 = .ok (.goto 67, 3) := by decide +kernel
theorem d_m_doStep_358 : decode prog_6_method_58_code 358 = .ok (.aload_n 0, 1) := by decide +kernel
theorem d_m_doStep_359 : decode prog_6_method_58_code 359 = .ok (.aload_n 0, 1) := by decide +kernel
theorem d_m_doStep_360 : decode prog_6_method_58_code 360 = .ok (.getfield 44, 3) := by decide +kernel
theorem d_m_doStep_363 : decode prog_6_method_58_code 363 = .ok (.iload_n 2, 1) := by decide +kernel
theorem d_m_doStep_364 : decode prog_6_method_58_code 364 = .ok (.iaload, 1) := by decide +kernel
theorem d_m_doStep_365 : decode prog_6_method_58_code 365 = .ok (.aload_n 0, 1) := by decide +kernel
theorem d_m_doStep_366 : decode prog_6_method_58_code 366 = .ok (.getfield 96, 3) := by decide +kernel
theorem d_m_doStep_369 : decode prog_6_method_58_code 369 = .ok (.aload_n 0, 1) := by decide +kernel
theorem d_m_doStep_370 : decode prog_6_method_58_code 370 = .ok (.getfield 44, 3) := by decide +kernel
theorem d_m_doStep_373 : decode prog_6_method_58_code 373 = .ok (.iload_n 2, 1) := by decide +kernel
theorem d_m_doStep_374 : decode prog_6_method_58_code 374 = .ok (.iconst 2, 1) := by decide +kernel
theorem d_m_doStep_375 : decode prog_6_method_58_code 375 = .ok (.iadd, 1) := by decide +kernel
theorem d_m_doStep_376 : decode prog_6_method_58_code 376 = .ok (.iaload, 1) := by decide +kernel
theorem d_m_doStep_377 : decode prog_6_method_58_code 377 = .ok (.iaload, 1) := by decide +kernel
theorem d_m_doStep_378 : decode prog_6_method_58_code 378 = .ok (.aload_n 0, 1) := by decide +kernel
theorem d_m_doStep_379 : decode prog_6_method_58_code 379 = .ok (.getfield 96, 3) := by decide +kernel
theorem d_m_doStep_382 : decode prog_6_method_58_code 382 = .ok (.aload_n 0, 1) := by decide +kernel
theorem d_m_doStep_383 : decode prog_6_method_58_code 383 = .ok (.getfield 44, 3) := by decide +kernel
theorem d_m_doStep_386 : decode prog_6_method_58_code 386 = .ok (.iload_n 2, 1) := by decide +kernel
theorem d_m_doStep_387 : decode prog_6_method_58_code 387 = .ok (.iconst 3, 1) := by decide +kernel
theorem d_m_doStep_388 : decode prog_6_method_58_code 388 = .ok (.iadd, 1) := by decide +kernel
theorem d_m_doStep_389 : decode prog_6_method_58_code 389 = .ok (.iaload, 1) := by decide +kernel
theorem d_m_doStep_390 : decode prog_6_method_58_code 390 = .ok (.iaload, 1) := by decide +kernel
theorem d_m_doStep_391 : decode prog_6_method_58_code 391 = .ok (.iload 4, 2) := by decide +kernel
theorem d_m_doStep_393 : decode prog_6_method_58_code 393 = .ok (.invokevirtual 297, 3) := by decide +kernel
theorem d_m_doStep_396 : decode prog_6_method_58_code 396 = .ok (.istore 5, 2) := by decide +kernel
theorem d_m_doStep_398 : decode prog_6_method_58_code 398 = .ok (.aload_n 0, 1) := by decide +kernel
theorem d_m_doStep_399 : decode prog_6_method_58_code 399 = .ok (.getfield 96, 3) := by decide +kernel
theorem d_m_doStep_402 : decode prog_6_method_58_code 402 = .ok (.iload_n 3, 1) := by decide +kernel
theorem d_m_doStep_403 : decode prog_6_method_58_code 403 = .ok (.aload_n 0, 1) := by decide +kernel
theorem d_m_doStep_404 : decode prog_6_method_58_code 404 = .ok (.getfield 288, 3) := by decide +kernel
theorem d_m_doStep_407 : decode prog_6_method_58_code 407 = .ok (.ifCond .ne 8, 3) := by decide +kernel
theorem d_m_doStep_410 : decode prog_6_method_58_code 410 = .ok (.iload 5, 2) := by decide +kernel
theorem d_m_doStep_412 : decode prog_6_method_58_code 412 = .ok (.goto 9, 3) := by decide +kernel
theorem d_m_doStep_415 : decode prog_6_method_58_code 415 = .ok (.aload_n 0, 1) := by decide +kernel
theorem d_m_doStep_416 : decode prog_6_method_58_code 416 = .ok (.getfield 96, 3) := by decide +kernel
theorem d_m_doStep_419 : decode prog_6_method_58_code 419 = .ok (.iload_n 3, 1) := by decide +kernel
theorem d_m_doStep_420 : decode prog_6_method_58_code 420 = .ok (.iaload, 1) := by decide +kernel
theorem d_m_doStep_421 : decode prog_6_method_58_code 421 = .ok (.iastore, 1) := by decide +kernel
theorem d_m_doStep_422 : decode prog_6_method_58_code 422 = .ok (.iload_n 1, 1) := by decide +kernel
theorem d_m_doStep_423 : decode prog_6_method_58_code 423 = .ok (.iconst 1, 1) := by decide +kernel
theorem d_m_doStep_424 : decode prog_6_method_58_code 424 = .ok (.iadd, 1) := by decide +kernel
theorem d_m_doStep_425 : decode prog_6_method_58_code 425 = .ok (.ireturn, 1) := by decide +kernel
theorem kc_m_doStep : Kw (m_w (mi_m_doStep )) := ⟨(in_t5 (List.mem_of_getElem? (i := 157) rfl)), rfl⟩
theorem mv_m_doStep : MV (mi_m_doStep ) "GuardedMovesModel" 1 := ⟨kw_1116, ks_83, kc_m_doStep , kw_7, ⟨⟨(by show ("GuardedMovesModel" : String) ≠ "java/lang/invoke/MethodHandle"; decide), (by show ("GuardedMovesModel" : String) ≠ "java/lang/invoke/VarHandle"; decide)⟩, (by show (parseMethodDescriptor "(I)I").map (fun d => d.parameters.length) = some 1; decide +kernel)⟩⟩
def w_m_doStep_422 (Q : Int32 → Sg → Prop) (v1 : Int32) (σ : Sg) : Prop := Q (v1 + 1) σ
theorem b_m_doStep_422 {Δ : Ly} {G : Gm} {Q : Int32 → Sg → Prop} (cx : Cx Δ G mi_m_doStep) : ∀ (v1 : Int32) (σ : Sg), w_m_doStep_422 Q v1 σ → Y Δ G mi_m_doStep (qI Q) noE 0 0 σ 422 [(1, .int v1)] [] := by
  intro v1 σ h
  unfold w_m_doStep_422 at h
  refine y_iload_n cx (pc := 422) d_m_doStep_422 rfl 0 rfl ?_
  refine y_iconst cx (pc := 423) ic_1 d_m_doStep_423 ?_
  refine y_iadd cx (pc := 424) d_m_doStep_424 ?_
  exact y_iret cx (pc := 425) rfl d_m_doStep_425 (le_b rfl) (le_b rfl) h
def w_m_doStep_209 (Q : Int32 → Sg → Prop) (v1 : Int32) (s0 : Int32) (s1 : Int32) (σ : Sg) : Prop := vp_in s1 4100 ∧ (w_m_doStep_422 Q v1 (up σ 85 (s1.toNatClampNeg) s0))
theorem b_m_doStep_209 {Δ : Ly} {G : Gm} {Q : Int32 → Sg → Prop} (cx : Cx Δ G mi_m_doStep) : ∀ (v1 : Int32) (s0 : Int32) (s1 : Int32) (σ : Sg), w_m_doStep_209 Q v1 s0 s1 σ → Y Δ G mi_m_doStep (qI Q) noE 0 0 σ 209 [(1, .int v1)] [.int s0, .int s1, .ref (Δ.1 85)] := by
  intro v1 s0 s1 σ h
  unfold w_m_doStep_209 at h
  obtain ⟨h0, h⟩ := h
  refine y_iast cx (pc := 209) ⟨(le_b rfl), fun _ => rfl⟩ h0 d_m_doStep_209 ?_
  refine y_goto cx (pc := 210) (tgt := 422) d_m_doStep_210 (by decide) ?_
  exact b_m_doStep_422 cx v1 (up σ 85 (s1.toNatClampNeg) s0) h
def w_m_doStep_329 (Q : Int32 → Sg → Prop) (s0 : Int32) (σ : Sg) : Prop := Q s0 σ
theorem b_m_doStep_329 {Δ : Ly} {G : Gm} {Q : Int32 → Sg → Prop} (cx : Cx Δ G mi_m_doStep) : ∀ (s0 : Int32) (σ : Sg), w_m_doStep_329 Q s0 σ → Y Δ G mi_m_doStep (qI Q) noE 0 0 σ 329 [] [.int s0] := by
  intro s0 σ h
  unfold w_m_doStep_329 at h
  exact y_iret cx (pc := 329) rfl d_m_doStep_329 (le_b rfl) (le_b rfl) h
def w_m_doStep_421 (Q : Int32 → Sg → Prop) (v1 : Int32) (s0 : Int32) (s1 : Int32) (σ : Sg) : Prop := vp_in s1 4100 ∧ (w_m_doStep_422 Q v1 (up σ 85 (s1.toNatClampNeg) s0))
theorem b_m_doStep_421 {Δ : Ly} {G : Gm} {Q : Int32 → Sg → Prop} (cx : Cx Δ G mi_m_doStep) : ∀ (v1 : Int32) (s0 : Int32) (s1 : Int32) (σ : Sg), w_m_doStep_421 Q v1 s0 s1 σ → Y Δ G mi_m_doStep (qI Q) noE 0 0 σ 421 [(1, .int v1)] [.int s0, .int s1, .ref (Δ.1 85)] := by
  intro v1 s0 s1 σ h
  unfold w_m_doStep_421 at h
  obtain ⟨h0, h⟩ := h
  refine y_iast cx (pc := 421) ⟨(le_b rfl), fun _ => rfl⟩ h0 d_m_doStep_421 ?_
  exact b_m_doStep_422 cx v1 (up σ 85 (s1.toNatClampNeg) s0) h
def w_m_doStep (p1 : Int32) (σ : Sg) (Q : Int32 → Sg → Prop) : Prop := ∀ x1 : Int32, x1 = 6 * p1 → (vp_in (x1 + 1) 24000 ∧ (∀ x2 : Int32, x2 = σ 70 ((x1 + 1).toNatClampNeg) → (vp_in (x1 + 5) 24000 ∧ (∀ x3 : Int32, x3 = σ 70 ((x1 + 5).toNatClampNeg) → (vp_in x1 24000 ∧ (((σ 70 (x1.toNatClampNeg)) = 0 → (vp_in (x1 + 2) 24000 ∧ (vp_in x2 4100 ∧ (w_m_doStep_422 Q p1 (up σ 85 (x2.toNatClampNeg) (σ 70 ((x1 + 2).toNatClampNeg))))))) ∧ (¬ (σ 70 (x1.toNatClampNeg)) = 0 → (((σ 70 (x1.toNatClampNeg)) = 1 → (vp_in (x1 + 2) 24000 ∧ (vp_in (σ 70 ((x1 + 2).toNatClampNeg)) 4100 ∧ (vp_in x2 4100 ∧ (w_m_doStep_422 Q p1 (up σ 85 (x2.toNatClampNeg) (σ 85 ((σ 70 ((x1 + 2).toNatClampNeg)).toNatClampNeg)))))))) ∧ (¬ (σ 70 (x1.toNatClampNeg)) = 1 → (((σ 70 (x1.toNatClampNeg)) = 13 → (vp_in (x1 + 2) 24000 ∧ (vp_in (σ 70 ((x1 + 2).toNatClampNeg)) 4100 ∧ (((σ 85 ((σ 70 ((x1 + 2).toNatClampNeg)).toNatClampNeg)) = 0 → (vp_in (x1 + 4) 24000 ∧ (vp_in (σ 70 ((x1 + 4).toNatClampNeg)) 4100 ∧ (w_m_doStep_209 Q p1 (σ 85 ((σ 70 ((x1 + 4).toNatClampNeg)).toNatClampNeg)) x2 σ)))) ∧ (¬ (σ 85 ((σ 70 ((x1 + 2).toNatClampNeg)).toNatClampNeg)) = 0 → (vp_in (x1 + 3) 24000 ∧ (vp_in (σ 70 ((x1 + 3).toNatClampNeg)) 4100 ∧ (w_m_doStep_209 Q p1 (σ 85 ((σ 70 ((x1 + 3).toNatClampNeg)).toNatClampNeg)) x2 σ)))))))) ∧ (¬ (σ 70 (x1.toNatClampNeg)) = 13 → (((σ 70 (x1.toNatClampNeg)) = 14 → (vp_in (x1 + 2) 24000 ∧ (vp_in (σ 70 ((x1 + 2).toNatClampNeg)) 4100 ∧ (w_m_isWord (σ 85 ((σ 70 ((x1 + 2).toNatClampNeg)).toNatClampNeg)) x3 σ (fun x4 σ5 => (x4 = 0 → (w_m_doStep_422 Q p1 σ5)) ∧ (¬ x4 = 0 → (vp_in (x1 + 2) 24000 ∧ (vp_in (σ5 70 ((x1 + 2).toNatClampNeg)) 4100 ∧ (vp_in (σ5 85 ((σ5 70 ((x1 + 2).toNatClampNeg)).toNatClampNeg)) 32 ∧ (vp_in x2 4100 ∧ (w_m_doStep_422 Q p1 (up σ5 85 (x2.toNatClampNeg) (σ5 83 ((σ5 85 ((σ5 70 ((x1 + 2).toNatClampNeg)).toNatClampNeg)).toNatClampNeg)))))))))))))) ∧ (¬ (σ 70 (x1.toNatClampNeg)) = 14 → (((σ 70 (x1.toNatClampNeg)) = 15 → (vp_in x2 4100 ∧ (w_m_isWord (σ 85 (x2.toNatClampNeg)) x3 σ (fun x6 σ7 => (x6 = 0 → (w_m_doStep_422 Q p1 σ7)) ∧ (¬ x6 = 0 → (vp_in x2 4100 ∧ (vp_in (x1 + 2) 24000 ∧ (vp_in (σ7 70 ((x1 + 2).toNatClampNeg)) 4100 ∧ (vp_in (σ7 85 (x2.toNatClampNeg)) 32 ∧ (w_m_doStep_422 Q p1 (up σ7 83 ((σ7 85 (x2.toNatClampNeg)).toNatClampNeg) (σ7 85 ((σ7 70 ((x1 + 2).toNatClampNeg)).toNatClampNeg))))))))))))) ∧ (¬ (σ 70 (x1.toNatClampNeg)) = 15 → (((σ 70 (x1.toNatClampNeg)) = 16 → (Q x2 σ)) ∧ (¬ (σ 70 (x1.toNatClampNeg)) = 16 → (((σ 70 (x1.toNatClampNeg)) = 17 → (vp_in x2 4100 ∧ ((¬ (σ 85 (x2.toNatClampNeg)) = 0 → (w_m_doStep_329 Q (p1 + 1) σ)) ∧ ((σ 85 (x2.toNatClampNeg)) = 0 → (vp_in (x1 + 2) 24000 ∧ (w_m_doStep_329 Q (σ 70 ((x1 + 2).toNatClampNeg)) σ)))))) ∧ (¬ (σ 70 (x1.toNatClampNeg)) = 17 → (((σ 70 (x1.toNatClampNeg)) = 18 → (vp_in x2 4100 ∧ (vp_in (σ 58 39) 60 ∧ (w_m_doStep_422 Q p1 (up (up σ 84 ((σ 58 39).toNatClampNeg) (σ 85 (x2.toNatClampNeg))) 58 39 ((σ 58 39) + 1)))))) ∧ (¬ (σ 70 (x1.toNatClampNeg)) = 18 → (vp_in x1 24000 ∧ (vp_in (x1 + 2) 24000 ∧ (vp_in (σ 70 ((x1 + 2).toNatClampNeg)) 4100 ∧ (vp_in (x1 + 3) 24000 ∧ (vp_in (σ 70 ((x1 + 3).toNatClampNeg)) 4100 ∧ (w_m_reach (σ 70 (x1.toNatClampNeg)) (σ 85 ((σ 70 ((x1 + 2).toNatClampNeg)).toNatClampNeg)) (σ 85 ((σ 70 ((x1 + 3).toNatClampNeg)).toNatClampNeg)) x3 σ (fun x8 σ9 => (¬ (σ9 58 42) = 0 → (vp_in x2 4100 ∧ (w_m_doStep_421 Q p1 (σ9 85 (x2.toNatClampNeg)) x2 σ9))) ∧ ((σ9 58 42) = 0 → (w_m_doStep_421 Q p1 x8 x2 σ9))))))))))))))))))))))))))))))
theorem b_m_doStep {Δ : Ly} {G : Gm} {Q : Int32 → Sg → Prop} (cx : Cx Δ G mi_m_doStep) (p1 : Int32) (σ : Sg) (h : w_m_doStep p1 σ Q) : Y Δ G mi_m_doStep (qI Q) noE 0 0 σ 0 [(0, .ref (Δ.1 58)), (1, .int p1)] [] := by
  unfold w_m_doStep at h
  refine y_bipush cx (pc := 0) bp_6 d_m_doStep_0 ?_
  refine y_iload_n cx (pc := 2) d_m_doStep_2 rfl 1 rfl ?_
  refine y_imul cx (pc := 3) d_m_doStep_3 ?_
  refine y_topi (fun x1 ex1 => ?_)
  replace h := h x1 ex1
  refine y_istore_n (lv' := [(2, .int x1), (0, .ref (Δ.1 58)), (1, .int p1)]) cx (pc := 4) d_m_doStep_4 rfl (le_b rfl) rfl ?_
  refine y_aload_n cx (pc := 5) d_m_doStep_5 rfl 1 rfl ?_
  refine y_get cx (pc := 6) (j := 19) (v := .ref (Δ.1 70)) (le_b rfl) ck_Md kw_767 (le_b rfl) (gf_58_19 Δ _) d_m_doStep_6 ?_
  refine y_iload_n cx (pc := 9) d_m_doStep_9 rfl 0 rfl ?_
  refine y_iconst cx (pc := 10) ic_1 d_m_doStep_10 ?_
  refine y_iadd cx (pc := 11) d_m_doStep_11 ?_
  obtain ⟨h0, h⟩ := h
  refine y_iald cx (pc := 12) ⟨(le_b rfl), fun _ => rfl⟩ h0 d_m_doStep_12 ?_
  refine y_topi (fun x2 ex2 => ?_)
  replace h := h x2 ex2
  refine y_istore_n (lv' := [(3, .int x2), (2, .int x1), (0, .ref (Δ.1 58)), (1, .int p1)]) cx (pc := 13) d_m_doStep_13 rfl (le_b rfl) rfl ?_
  refine y_aload_n cx (pc := 14) d_m_doStep_14 rfl 2 rfl ?_
  refine y_get cx (pc := 15) (j := 19) (v := .ref (Δ.1 70)) (le_b rfl) ck_Md kw_767 (le_b rfl) (gf_58_19 Δ _) d_m_doStep_15 ?_
  refine y_iload_n cx (pc := 18) d_m_doStep_18 rfl 1 rfl ?_
  refine y_iconst cx (pc := 19) ic_5 d_m_doStep_19 ?_
  refine y_iadd cx (pc := 20) d_m_doStep_20 ?_
  obtain ⟨h0, h⟩ := h
  refine y_iald cx (pc := 21) ⟨(le_b rfl), fun _ => rfl⟩ h0 d_m_doStep_21 ?_
  refine y_topi (fun x3 ex3 => ?_)
  replace h := h x3 ex3
  refine y_istore (lv' := [(4, .int x3), (3, .int x2), (2, .int x1), (0, .ref (Δ.1 58)), (1, .int p1)]) cx (pc := 22) d_m_doStep_22 (le_b rfl) rfl ?_
  refine y_aload_n cx (pc := 24) d_m_doStep_24 rfl 3 rfl ?_
  refine y_get cx (pc := 25) (j := 19) (v := .ref (Δ.1 70)) (le_b rfl) ck_Md kw_767 (le_b rfl) (gf_58_19 Δ _) d_m_doStep_25 ?_
  refine y_iload_n cx (pc := 28) d_m_doStep_28 rfl 2 rfl ?_
  obtain ⟨h0, h⟩ := h
  refine y_iald cx (pc := 29) ⟨(le_b rfl), fun _ => rfl⟩ h0 d_m_doStep_29 ?_
  by_cases hc0 : (σ 70 (x1.toNatClampNeg)) = 0
  · replace h := h.1 hc0
    refine y_tIn cx (pc := 30) (tgt := 120) (c := 0) d_m_doStep_30 hc0 (by decide) (by decide) rfl (by decide) ?_
    refine y_aload_n cx (pc := 120) d_m_doStep_120 rfl 3 rfl ?_
    refine y_get cx (pc := 121) (j := 43) (v := .ref (Δ.1 85)) (le_b rfl) ck_Md kw_791 (le_b rfl) (gf_58_43 Δ _) d_m_doStep_121 ?_
    refine y_iload_n cx (pc := 124) d_m_doStep_124 rfl 1 rfl ?_
    refine y_aload_n cx (pc := 125) d_m_doStep_125 rfl 3 rfl ?_
    refine y_get cx (pc := 126) (j := 19) (v := .ref (Δ.1 70)) (le_b rfl) ck_Md kw_767 (le_b rfl) (gf_58_19 Δ _) d_m_doStep_126 ?_
    refine y_iload_n cx (pc := 129) d_m_doStep_129 rfl 2 rfl ?_
    refine y_iconst cx (pc := 130) ic_2 d_m_doStep_130 ?_
    refine y_iadd cx (pc := 131) d_m_doStep_131 ?_
    obtain ⟨h0, h⟩ := h
    refine y_iald cx (pc := 132) ⟨(le_b rfl), fun _ => rfl⟩ h0 d_m_doStep_132 ?_
    obtain ⟨h0, h⟩ := h
    refine y_iast cx (pc := 133) ⟨(le_b rfl), fun _ => rfl⟩ h0 d_m_doStep_133 ?_
    refine y_goto cx (pc := 134) (tgt := 422) d_m_doStep_134 (by decide) ?_
    refine y_sub [4] rfl ?_
    exact b_m_doStep_422 cx p1 (up σ 85 (x2.toNatClampNeg) (σ 70 ((x1 + 2).toNatClampNeg))) h
  replace h := h.2 hc0
  by_cases hc1 : (σ 70 (x1.toNatClampNeg)) = 1
  · replace h := h.1 hc1
    refine y_tIn cx (pc := 30) (tgt := 137) (c := 1) d_m_doStep_30 hc1 (by decide) (by decide) rfl (by decide) ?_
    refine y_aload_n cx (pc := 137) d_m_doStep_137 rfl 3 rfl ?_
    refine y_get cx (pc := 138) (j := 43) (v := .ref (Δ.1 85)) (le_b rfl) ck_Md kw_791 (le_b rfl) (gf_58_43 Δ _) d_m_doStep_138 ?_
    refine y_iload_n cx (pc := 141) d_m_doStep_141 rfl 1 rfl ?_
    refine y_aload_n cx (pc := 142) d_m_doStep_142 rfl 3 rfl ?_
    refine y_get cx (pc := 143) (j := 43) (v := .ref (Δ.1 85)) (le_b rfl) ck_Md kw_791 (le_b rfl) (gf_58_43 Δ _) d_m_doStep_143 ?_
    refine y_aload_n cx (pc := 146) d_m_doStep_146 rfl 3 rfl ?_
    refine y_get cx (pc := 147) (j := 19) (v := .ref (Δ.1 70)) (le_b rfl) ck_Md kw_767 (le_b rfl) (gf_58_19 Δ _) d_m_doStep_147 ?_
    refine y_iload_n cx (pc := 150) d_m_doStep_150 rfl 2 rfl ?_
    refine y_iconst cx (pc := 151) ic_2 d_m_doStep_151 ?_
    refine y_iadd cx (pc := 152) d_m_doStep_152 ?_
    obtain ⟨h0, h⟩ := h
    refine y_iald cx (pc := 153) ⟨(le_b rfl), fun _ => rfl⟩ h0 d_m_doStep_153 ?_
    obtain ⟨h0, h⟩ := h
    refine y_iald cx (pc := 154) ⟨(le_b rfl), fun _ => rfl⟩ h0 d_m_doStep_154 ?_
    obtain ⟨h0, h⟩ := h
    refine y_iast cx (pc := 155) ⟨(le_b rfl), fun _ => rfl⟩ h0 d_m_doStep_155 ?_
    refine y_goto cx (pc := 156) (tgt := 422) d_m_doStep_156 (by decide) ?_
    refine y_sub [4] rfl ?_
    exact b_m_doStep_422 cx p1 (up σ 85 (x2.toNatClampNeg) (σ 85 ((σ 70 ((x1 + 2).toNatClampNeg)).toNatClampNeg))) h
  replace h := h.2 hc1
  by_cases hc13 : (σ 70 (x1.toNatClampNeg)) = 13
  · replace h := h.1 hc13
    refine y_tIn cx (pc := 30) (tgt := 159) (c := 13) d_m_doStep_30 hc13 (by decide) (by decide) rfl (by decide) ?_
    refine y_aload_n cx (pc := 159) d_m_doStep_159 rfl 3 rfl ?_
    refine y_get cx (pc := 160) (j := 43) (v := .ref (Δ.1 85)) (le_b rfl) ck_Md kw_791 (le_b rfl) (gf_58_43 Δ _) d_m_doStep_160 ?_
    refine y_iload_n cx (pc := 163) d_m_doStep_163 rfl 1 rfl ?_
    refine y_aload_n cx (pc := 164) d_m_doStep_164 rfl 3 rfl ?_
    refine y_get cx (pc := 165) (j := 43) (v := .ref (Δ.1 85)) (le_b rfl) ck_Md kw_791 (le_b rfl) (gf_58_43 Δ _) d_m_doStep_165 ?_
    refine y_aload_n cx (pc := 168) d_m_doStep_168 rfl 3 rfl ?_
    refine y_get cx (pc := 169) (j := 19) (v := .ref (Δ.1 70)) (le_b rfl) ck_Md kw_767 (le_b rfl) (gf_58_19 Δ _) d_m_doStep_169 ?_
    refine y_iload_n cx (pc := 172) d_m_doStep_172 rfl 2 rfl ?_
    refine y_iconst cx (pc := 173) ic_2 d_m_doStep_173 ?_
    refine y_iadd cx (pc := 174) d_m_doStep_174 ?_
    obtain ⟨h0, h⟩ := h
    refine y_iald cx (pc := 175) ⟨(le_b rfl), fun _ => rfl⟩ h0 d_m_doStep_175 ?_
    obtain ⟨h0, h⟩ := h
    refine y_iald cx (pc := 176) ⟨(le_b rfl), fun _ => rfl⟩ h0 d_m_doStep_176 ?_
    refine y_if_eq cx (pc := 177) (tgt := 196) d_m_doStep_177 (by decide) (fun hc => ?_) (fun hc => ?_)
    · replace h := h.1 hc
      refine y_aload_n cx (pc := 196) d_m_doStep_196 rfl 3 rfl ?_
      refine y_get cx (pc := 197) (j := 43) (v := .ref (Δ.1 85)) (le_b rfl) ck_Md kw_791 (le_b rfl) (gf_58_43 Δ _) d_m_doStep_197 ?_
      refine y_aload_n cx (pc := 200) d_m_doStep_200 rfl 3 rfl ?_
      refine y_get cx (pc := 201) (j := 19) (v := .ref (Δ.1 70)) (le_b rfl) ck_Md kw_767 (le_b rfl) (gf_58_19 Δ _) d_m_doStep_201 ?_
      refine y_iload_n cx (pc := 204) d_m_doStep_204 rfl 2 rfl ?_
      refine y_iconst cx (pc := 205) ic_4 d_m_doStep_205 ?_
      refine y_iadd cx (pc := 206) d_m_doStep_206 ?_
      obtain ⟨h0, h⟩ := h
      refine y_iald cx (pc := 207) ⟨(le_b rfl), fun _ => rfl⟩ h0 d_m_doStep_207 ?_
      obtain ⟨h0, h⟩ := h
      refine y_iald cx (pc := 208) ⟨(le_b rfl), fun _ => rfl⟩ h0 d_m_doStep_208 ?_
      refine y_sub [4] rfl ?_
      exact b_m_doStep_209 cx p1 (σ 85 ((σ 70 ((x1 + 4).toNatClampNeg)).toNatClampNeg)) x2 σ h
    · replace h := h.2 hc
      refine y_aload_n cx (pc := 180) d_m_doStep_180 rfl 3 rfl ?_
      refine y_get cx (pc := 181) (j := 43) (v := .ref (Δ.1 85)) (le_b rfl) ck_Md kw_791 (le_b rfl) (gf_58_43 Δ _) d_m_doStep_181 ?_
      refine y_aload_n cx (pc := 184) d_m_doStep_184 rfl 3 rfl ?_
      refine y_get cx (pc := 185) (j := 19) (v := .ref (Δ.1 70)) (le_b rfl) ck_Md kw_767 (le_b rfl) (gf_58_19 Δ _) d_m_doStep_185 ?_
      refine y_iload_n cx (pc := 188) d_m_doStep_188 rfl 2 rfl ?_
      refine y_iconst cx (pc := 189) ic_3 d_m_doStep_189 ?_
      refine y_iadd cx (pc := 190) d_m_doStep_190 ?_
      obtain ⟨h0, h⟩ := h
      refine y_iald cx (pc := 191) ⟨(le_b rfl), fun _ => rfl⟩ h0 d_m_doStep_191 ?_
      obtain ⟨h0, h⟩ := h
      refine y_iald cx (pc := 192) ⟨(le_b rfl), fun _ => rfl⟩ h0 d_m_doStep_192 ?_
      refine y_goto cx (pc := 193) (tgt := 209) d_m_doStep_193 (by decide) ?_
      refine y_sub [4] rfl ?_
      exact b_m_doStep_209 cx p1 (σ 85 ((σ 70 ((x1 + 3).toNatClampNeg)).toNatClampNeg)) x2 σ h
  replace h := h.2 hc13
  by_cases hc14 : (σ 70 (x1.toNatClampNeg)) = 14
  · replace h := h.1 hc14
    refine y_tIn cx (pc := 30) (tgt := 213) (c := 14) d_m_doStep_30 hc14 (by decide) (by decide) rfl (by decide) ?_
    refine y_aload_n cx (pc := 213) d_m_doStep_213 rfl 3 rfl ?_
    refine y_aload_n cx (pc := 214) d_m_doStep_214 rfl 3 rfl ?_
    refine y_get cx (pc := 215) (j := 43) (v := .ref (Δ.1 85)) (le_b rfl) ck_Md kw_791 (le_b rfl) (gf_58_43 Δ _) d_m_doStep_215 ?_
    refine y_aload_n cx (pc := 218) d_m_doStep_218 rfl 3 rfl ?_
    refine y_get cx (pc := 219) (j := 19) (v := .ref (Δ.1 70)) (le_b rfl) ck_Md kw_767 (le_b rfl) (gf_58_19 Δ _) d_m_doStep_219 ?_
    refine y_iload_n cx (pc := 222) d_m_doStep_222 rfl 2 rfl ?_
    refine y_iconst cx (pc := 223) ic_2 d_m_doStep_223 ?_
    refine y_iadd cx (pc := 224) d_m_doStep_224 ?_
    obtain ⟨h0, h⟩ := h
    refine y_iald cx (pc := 225) ⟨(le_b rfl), fun _ => rfl⟩ h0 d_m_doStep_225 ?_
    obtain ⟨h0, h⟩ := h
    refine y_iald cx (pc := 226) ⟨(le_b rfl), fun _ => rfl⟩ h0 d_m_doStep_226 ?_
    refine y_iload cx (pc := 227) d_m_doStep_227 0 rfl ?_
    refine y_vI cx (pc := 229) (st := []) [.int (σ 85 ((σ 70 ((x1 + 2).toNatClampNeg)).toNatClampNeg)), .int x3] (c_m_isWord cx.fl Δ (σ 85 ((σ 70 ((x1 + 2).toNatClampNeg)).toNatClampNeg)) x3 _ _ h) mv_m_isWord kw_1098 (oc_58 Δ) ck_Md rfl (le_b rfl) (le_b rfl) (le_b rfl) (le_b rfl) (le_b rfl) d_m_doStep_229 (fun x4 σ5 h => ?_) (fun x σ5 h => yt_no h)
    refine y_if_eq cx (pc := 232) (tgt := 422) d_m_doStep_232 (by decide) (fun hc => ?_) (fun hc => ?_)
    · replace h := h.1 hc
      refine y_sub [4] rfl ?_
      exact b_m_doStep_422 cx p1 σ5 h
    · replace h := h.2 hc
      refine y_aload_n cx (pc := 235) d_m_doStep_235 rfl 3 rfl ?_
      refine y_get cx (pc := 236) (j := 43) (v := .ref (Δ.1 85)) (le_b rfl) ck_Md kw_791 (le_b rfl) (gf_58_43 Δ _) d_m_doStep_236 ?_
      refine y_iload_n cx (pc := 239) d_m_doStep_239 rfl 1 rfl ?_
      refine y_aload_n cx (pc := 240) d_m_doStep_240 rfl 3 rfl ?_
      refine y_get cx (pc := 241) (j := 37) (v := .ref (Δ.1 83)) (le_b rfl) ck_Md kw_785 (le_b rfl) (gf_58_37 Δ _) d_m_doStep_241 ?_
      refine y_aload_n cx (pc := 244) d_m_doStep_244 rfl 3 rfl ?_
      refine y_get cx (pc := 245) (j := 43) (v := .ref (Δ.1 85)) (le_b rfl) ck_Md kw_791 (le_b rfl) (gf_58_43 Δ _) d_m_doStep_245 ?_
      refine y_aload_n cx (pc := 248) d_m_doStep_248 rfl 3 rfl ?_
      refine y_get cx (pc := 249) (j := 19) (v := .ref (Δ.1 70)) (le_b rfl) ck_Md kw_767 (le_b rfl) (gf_58_19 Δ _) d_m_doStep_249 ?_
      refine y_iload_n cx (pc := 252) d_m_doStep_252 rfl 2 rfl ?_
      refine y_iconst cx (pc := 253) ic_2 d_m_doStep_253 ?_
      refine y_iadd cx (pc := 254) d_m_doStep_254 ?_
      obtain ⟨h0, h⟩ := h
      refine y_iald cx (pc := 255) ⟨(le_b rfl), fun _ => rfl⟩ h0 d_m_doStep_255 ?_
      obtain ⟨h0, h⟩ := h
      refine y_iald cx (pc := 256) ⟨(le_b rfl), fun _ => rfl⟩ h0 d_m_doStep_256 ?_
      obtain ⟨h0, h⟩ := h
      refine y_iald cx (pc := 257) ⟨(le_b rfl), fun _ => rfl⟩ h0 d_m_doStep_257 ?_
      obtain ⟨h0, h⟩ := h
      refine y_iast cx (pc := 258) ⟨(le_b rfl), fun _ => rfl⟩ h0 d_m_doStep_258 ?_
      refine y_goto cx (pc := 259) (tgt := 422) d_m_doStep_259 (by decide) ?_
      refine y_sub [4] rfl ?_
      exact b_m_doStep_422 cx p1 (up σ5 85 (x2.toNatClampNeg) (σ5 83 ((σ5 85 ((σ5 70 ((x1 + 2).toNatClampNeg)).toNatClampNeg)).toNatClampNeg))) h
  replace h := h.2 hc14
  by_cases hc15 : (σ 70 (x1.toNatClampNeg)) = 15
  · replace h := h.1 hc15
    refine y_tIn cx (pc := 30) (tgt := 262) (c := 15) d_m_doStep_30 hc15 (by decide) (by decide) rfl (by decide) ?_
    refine y_aload_n cx (pc := 262) d_m_doStep_262 rfl 3 rfl ?_
    refine y_aload_n cx (pc := 263) d_m_doStep_263 rfl 3 rfl ?_
    refine y_get cx (pc := 264) (j := 43) (v := .ref (Δ.1 85)) (le_b rfl) ck_Md kw_791 (le_b rfl) (gf_58_43 Δ _) d_m_doStep_264 ?_
    refine y_iload_n cx (pc := 267) d_m_doStep_267 rfl 1 rfl ?_
    obtain ⟨h0, h⟩ := h
    refine y_iald cx (pc := 268) ⟨(le_b rfl), fun _ => rfl⟩ h0 d_m_doStep_268 ?_
    refine y_iload cx (pc := 269) d_m_doStep_269 0 rfl ?_
    refine y_vI cx (pc := 271) (st := []) [.int (σ 85 (x2.toNatClampNeg)), .int x3] (c_m_isWord cx.fl Δ (σ 85 (x2.toNatClampNeg)) x3 _ _ h) mv_m_isWord kw_1098 (oc_58 Δ) ck_Md rfl (le_b rfl) (le_b rfl) (le_b rfl) (le_b rfl) (le_b rfl) d_m_doStep_271 (fun x6 σ7 h => ?_) (fun x σ7 h => yt_no h)
    refine y_if_eq cx (pc := 274) (tgt := 422) d_m_doStep_274 (by decide) (fun hc => ?_) (fun hc => ?_)
    · replace h := h.1 hc
      refine y_sub [4] rfl ?_
      exact b_m_doStep_422 cx p1 σ7 h
    · replace h := h.2 hc
      refine y_aload_n cx (pc := 277) d_m_doStep_277 rfl 3 rfl ?_
      refine y_get cx (pc := 278) (j := 37) (v := .ref (Δ.1 83)) (le_b rfl) ck_Md kw_785 (le_b rfl) (gf_58_37 Δ _) d_m_doStep_278 ?_
      refine y_aload_n cx (pc := 281) d_m_doStep_281 rfl 3 rfl ?_
      refine y_get cx (pc := 282) (j := 43) (v := .ref (Δ.1 85)) (le_b rfl) ck_Md kw_791 (le_b rfl) (gf_58_43 Δ _) d_m_doStep_282 ?_
      refine y_iload_n cx (pc := 285) d_m_doStep_285 rfl 1 rfl ?_
      obtain ⟨h0, h⟩ := h
      refine y_iald cx (pc := 286) ⟨(le_b rfl), fun _ => rfl⟩ h0 d_m_doStep_286 ?_
      refine y_aload_n cx (pc := 287) d_m_doStep_287 rfl 3 rfl ?_
      refine y_get cx (pc := 288) (j := 43) (v := .ref (Δ.1 85)) (le_b rfl) ck_Md kw_791 (le_b rfl) (gf_58_43 Δ _) d_m_doStep_288 ?_
      refine y_aload_n cx (pc := 291) d_m_doStep_291 rfl 3 rfl ?_
      refine y_get cx (pc := 292) (j := 19) (v := .ref (Δ.1 70)) (le_b rfl) ck_Md kw_767 (le_b rfl) (gf_58_19 Δ _) d_m_doStep_292 ?_
      refine y_iload_n cx (pc := 295) d_m_doStep_295 rfl 2 rfl ?_
      refine y_iconst cx (pc := 296) ic_2 d_m_doStep_296 ?_
      refine y_iadd cx (pc := 297) d_m_doStep_297 ?_
      obtain ⟨h0, h⟩ := h
      refine y_iald cx (pc := 298) ⟨(le_b rfl), fun _ => rfl⟩ h0 d_m_doStep_298 ?_
      obtain ⟨h0, h⟩ := h
      refine y_iald cx (pc := 299) ⟨(le_b rfl), fun _ => rfl⟩ h0 d_m_doStep_299 ?_
      obtain ⟨h0, h⟩ := h
      refine y_iast cx (pc := 300) ⟨(le_b rfl), fun _ => rfl⟩ h0 d_m_doStep_300 ?_
      refine y_goto cx (pc := 301) (tgt := 422) d_m_doStep_301 (by decide) ?_
      refine y_sub [4] rfl ?_
      exact b_m_doStep_422 cx p1 (up σ7 83 ((σ7 85 (x2.toNatClampNeg)).toNatClampNeg) (σ7 85 ((σ7 70 ((x1 + 2).toNatClampNeg)).toNatClampNeg))) h
  replace h := h.2 hc15
  by_cases hc16 : (σ 70 (x1.toNatClampNeg)) = 16
  · replace h := h.1 hc16
    refine y_tIn cx (pc := 30) (tgt := 304) (c := 16) d_m_doStep_30 hc16 (by decide) (by decide) rfl (by decide) ?_
    refine y_iload_n cx (pc := 304) d_m_doStep_304 rfl 1 rfl ?_
    exact y_iret cx (pc := 305) rfl d_m_doStep_305 (le_b rfl) (le_b rfl) h
  replace h := h.2 hc16
  by_cases hc17 : (σ 70 (x1.toNatClampNeg)) = 17
  · replace h := h.1 hc17
    refine y_tIn cx (pc := 30) (tgt := 306) (c := 17) d_m_doStep_30 hc17 (by decide) (by decide) rfl (by decide) ?_
    refine y_aload_n cx (pc := 306) d_m_doStep_306 rfl 3 rfl ?_
    refine y_get cx (pc := 307) (j := 43) (v := .ref (Δ.1 85)) (le_b rfl) ck_Md kw_791 (le_b rfl) (gf_58_43 Δ _) d_m_doStep_307 ?_
    refine y_iload_n cx (pc := 310) d_m_doStep_310 rfl 1 rfl ?_
    obtain ⟨h0, h⟩ := h
    refine y_iald cx (pc := 311) ⟨(le_b rfl), fun _ => rfl⟩ h0 d_m_doStep_311 ?_
    refine y_if_ne cx (pc := 312) (tgt := 326) d_m_doStep_312 (by decide) (fun hc => ?_) (fun hc => ?_)
    · replace h := h.1 hc
      refine y_iload_n cx (pc := 326) d_m_doStep_326 rfl 4 rfl ?_
      refine y_iconst cx (pc := 327) ic_1 d_m_doStep_327 ?_
      refine y_iadd cx (pc := 328) d_m_doStep_328 ?_
      refine y_sub [] rfl ?_
      exact b_m_doStep_329 cx (p1 + 1) σ h
    · replace h := h.2 hc
      refine y_aload_n cx (pc := 315) d_m_doStep_315 rfl 3 rfl ?_
      refine y_get cx (pc := 316) (j := 19) (v := .ref (Δ.1 70)) (le_b rfl) ck_Md kw_767 (le_b rfl) (gf_58_19 Δ _) d_m_doStep_316 ?_
      refine y_iload_n cx (pc := 319) d_m_doStep_319 rfl 2 rfl ?_
      refine y_iconst cx (pc := 320) ic_2 d_m_doStep_320 ?_
      refine y_iadd cx (pc := 321) d_m_doStep_321 ?_
      obtain ⟨h0, h⟩ := h
      refine y_iald cx (pc := 322) ⟨(le_b rfl), fun _ => rfl⟩ h0 d_m_doStep_322 ?_
      refine y_goto cx (pc := 323) (tgt := 329) d_m_doStep_323 (by decide) ?_
      refine y_sub [] rfl ?_
      exact b_m_doStep_329 cx (σ 70 ((x1 + 2).toNatClampNeg)) σ h
  replace h := h.2 hc17
  by_cases hc18 : (σ 70 (x1.toNatClampNeg)) = 18
  · replace h := h.1 hc18
    refine y_tIn cx (pc := 30) (tgt := 330) (c := 18) d_m_doStep_30 hc18 (by decide) (by decide) rfl (by decide) ?_
    refine y_aload_n cx (pc := 330) d_m_doStep_330 rfl 3 rfl ?_
    refine y_get cx (pc := 331) (j := 38) (v := .ref (Δ.1 84)) (le_b rfl) ck_Md kw_786 (le_b rfl) (gf_58_38 Δ _) d_m_doStep_331 ?_
    refine y_aload_n cx (pc := 334) d_m_doStep_334 rfl 3 rfl ?_
    refine y_get cx (pc := 335) (j := 39) (v := .int (σ 58 39)) (le_b rfl) ck_Md kw_787 (le_b rfl) (gf_58_39 Δ _) d_m_doStep_335 ?_
    refine y_aload_n cx (pc := 338) d_m_doStep_338 rfl 3 rfl ?_
    refine y_get cx (pc := 339) (j := 43) (v := .ref (Δ.1 85)) (le_b rfl) ck_Md kw_791 (le_b rfl) (gf_58_43 Δ _) d_m_doStep_339 ?_
    refine y_iload_n cx (pc := 342) d_m_doStep_342 rfl 1 rfl ?_
    obtain ⟨h0, h⟩ := h
    refine y_iald cx (pc := 343) ⟨(le_b rfl), fun _ => rfl⟩ h0 d_m_doStep_343 ?_
    obtain ⟨h0, h⟩ := h
    refine y_iast cx (pc := 344) ⟨(le_b rfl), fun _ => rfl⟩ h0 d_m_doStep_344 ?_
    refine y_aload_n cx (pc := 345) d_m_doStep_345 rfl 3 rfl ?_
    refine y_dup cx (pc := 346) rfl d_m_doStep_346 ?_
    refine y_get cx (pc := 347) (j := 39) (v := .int (σ 58 39)) (le_b rfl) ck_Md kw_787 (le_b rfl) (gf_58_39 Δ _) d_m_doStep_347 ?_
    refine y_iconst cx (pc := 350) ic_1 d_m_doStep_350 ?_
    refine y_iadd cx (pc := 351) d_m_doStep_351 ?_
    refine y_put cx (pc := 352) (j := 39) (ty := .int) (le_b rfl) ck_Md kw_787 (le_b rfl) rfl (t_Md_ok 39 (le_b rfl)) rfl rfl (pf_58_39 Δ) d_m_doStep_352 ?_
    refine y_goto cx (pc := 355) (tgt := 422) d_m_doStep_355 (by decide) ?_
    refine y_sub [4] rfl ?_
    exact b_m_doStep_422 cx p1 (up (up σ 84 ((σ 58 39).toNatClampNeg) (σ 85 (x2.toNatClampNeg))) 58 39 ((σ 58 39) + 1)) h
  replace h := h.2 hc18
  have hdf : (σ 70 (x1.toNatClampNeg)).toInt < 0 ∨ 18 < (σ 70 (x1.toNatClampNeg)).toInt ∨ (¬ (σ 70 (x1.toNatClampNeg)).toInt < 0 ∧ ¬ 18 < (σ 70 (x1.toNatClampNeg)).toInt ∧ (#[90, 107, 328, 328, 328, 328, 328, 328, 328, 328, 328, 328, 328, 129, 183, 232, 274, 276, 300] : Array Int)[((σ 70 (x1.toNatClampNeg)).toInt - 0).toNat]? = some (328 : Int)) := by
    have z0 := lv_neT hc0 (show (0 : Int32).toInt = 0 from rfl); have z1 := lv_neT hc1 (show (1 : Int32).toInt = 1 from rfl); have z13 := lv_neT hc13 (show (13 : Int32).toInt = 13 from rfl); have z14 := lv_neT hc14 (show (14 : Int32).toInt = 14 from rfl); have z15 := lv_neT hc15 (show (15 : Int32).toInt = 15 from rfl); have z16 := lv_neT hc16 (show (16 : Int32).toInt = 16 from rfl); have z17 := lv_neT hc17 (show (17 : Int32).toInt = 17 from rfl); have z18 := lv_neT hc18 (show (18 : Int32).toInt = 18 from rfl)
    rcases (show (σ 70 (x1.toNatClampNeg)).toInt < 0 ∨ 18 < (σ 70 (x1.toNatClampNeg)).toInt ∨ (σ 70 (x1.toNatClampNeg)).toInt = 2 ∨ (σ 70 (x1.toNatClampNeg)).toInt = 3 ∨ (σ 70 (x1.toNatClampNeg)).toInt = 4 ∨ (σ 70 (x1.toNatClampNeg)).toInt = 5 ∨ (σ 70 (x1.toNatClampNeg)).toInt = 6 ∨ (σ 70 (x1.toNatClampNeg)).toInt = 7 ∨ (σ 70 (x1.toNatClampNeg)).toInt = 8 ∨ (σ 70 (x1.toNatClampNeg)).toInt = 9 ∨ (σ 70 (x1.toNatClampNeg)).toInt = 10 ∨ (σ 70 (x1.toNatClampNeg)).toInt = 11 ∨ (σ 70 (x1.toNatClampNeg)).toInt = 12 by omega) with e | e | e | e | e | e | e | e | e | e | e | e | e
    · exact Or.inl e
    · exact Or.inr (Or.inl e)
    all_goals exact Or.inr (Or.inr ⟨by rw [e]; decide, by rw [e]; decide, by rw [e]; rfl⟩)
  refine y_tDf cx (pc := 30) (tgt := 358) d_m_doStep_30 hdf (by decide) ?_
  refine y_aload_n cx (pc := 358) d_m_doStep_358 rfl 3 rfl ?_
  refine y_aload_n cx (pc := 359) d_m_doStep_359 rfl 3 rfl ?_
  refine y_get cx (pc := 360) (j := 19) (v := .ref (Δ.1 70)) (le_b rfl) ck_Md kw_767 (le_b rfl) (gf_58_19 Δ _) d_m_doStep_360 ?_
  refine y_iload_n cx (pc := 363) d_m_doStep_363 rfl 2 rfl ?_
  obtain ⟨h0, h⟩ := h
  refine y_iald cx (pc := 364) ⟨(le_b rfl), fun _ => rfl⟩ h0 d_m_doStep_364 ?_
  refine y_aload_n cx (pc := 365) d_m_doStep_365 rfl 3 rfl ?_
  refine y_get cx (pc := 366) (j := 43) (v := .ref (Δ.1 85)) (le_b rfl) ck_Md kw_791 (le_b rfl) (gf_58_43 Δ _) d_m_doStep_366 ?_
  refine y_aload_n cx (pc := 369) d_m_doStep_369 rfl 3 rfl ?_
  refine y_get cx (pc := 370) (j := 19) (v := .ref (Δ.1 70)) (le_b rfl) ck_Md kw_767 (le_b rfl) (gf_58_19 Δ _) d_m_doStep_370 ?_
  refine y_iload_n cx (pc := 373) d_m_doStep_373 rfl 2 rfl ?_
  refine y_iconst cx (pc := 374) ic_2 d_m_doStep_374 ?_
  refine y_iadd cx (pc := 375) d_m_doStep_375 ?_
  obtain ⟨h0, h⟩ := h
  refine y_iald cx (pc := 376) ⟨(le_b rfl), fun _ => rfl⟩ h0 d_m_doStep_376 ?_
  obtain ⟨h0, h⟩ := h
  refine y_iald cx (pc := 377) ⟨(le_b rfl), fun _ => rfl⟩ h0 d_m_doStep_377 ?_
  refine y_aload_n cx (pc := 378) d_m_doStep_378 rfl 3 rfl ?_
  refine y_get cx (pc := 379) (j := 43) (v := .ref (Δ.1 85)) (le_b rfl) ck_Md kw_791 (le_b rfl) (gf_58_43 Δ _) d_m_doStep_379 ?_
  refine y_aload_n cx (pc := 382) d_m_doStep_382 rfl 3 rfl ?_
  refine y_get cx (pc := 383) (j := 19) (v := .ref (Δ.1 70)) (le_b rfl) ck_Md kw_767 (le_b rfl) (gf_58_19 Δ _) d_m_doStep_383 ?_
  refine y_iload_n cx (pc := 386) d_m_doStep_386 rfl 2 rfl ?_
  refine y_iconst cx (pc := 387) ic_3 d_m_doStep_387 ?_
  refine y_iadd cx (pc := 388) d_m_doStep_388 ?_
  obtain ⟨h0, h⟩ := h
  refine y_iald cx (pc := 389) ⟨(le_b rfl), fun _ => rfl⟩ h0 d_m_doStep_389 ?_
  obtain ⟨h0, h⟩ := h
  refine y_iald cx (pc := 390) ⟨(le_b rfl), fun _ => rfl⟩ h0 d_m_doStep_390 ?_
  refine y_iload cx (pc := 391) d_m_doStep_391 0 rfl ?_
  refine y_vI cx (pc := 393) (st := []) [.int (σ 70 (x1.toNatClampNeg)), .int (σ 85 ((σ 70 ((x1 + 2).toNatClampNeg)).toNatClampNeg)), .int (σ 85 ((σ 70 ((x1 + 3).toNatClampNeg)).toNatClampNeg)), .int x3] (c_m_reach cx.fl Δ (σ 70 (x1.toNatClampNeg)) (σ 85 ((σ 70 ((x1 + 2).toNatClampNeg)).toNatClampNeg)) (σ 85 ((σ 70 ((x1 + 3).toNatClampNeg)).toNatClampNeg)) x3 _ _ h) mv_m_reach kw_1090 (oc_58 Δ) ck_Md rfl (le_b rfl) (le_b rfl) (le_b rfl) (le_b rfl) (le_b rfl) d_m_doStep_393 (fun x8 σ9 h => ?_) (fun x σ9 h => yt_no h)
  refine y_istore (lv' := [(5, .int x8), (4, .int x3), (3, .int x2), (2, .int x1), (0, .ref (Δ.1 58)), (1, .int p1)]) cx (pc := 396) d_m_doStep_396 (le_b rfl) rfl ?_
  refine y_aload_n cx (pc := 398) d_m_doStep_398 rfl 4 rfl ?_
  refine y_get cx (pc := 399) (j := 43) (v := .ref (Δ.1 85)) (le_b rfl) ck_Md kw_791 (le_b rfl) (gf_58_43 Δ _) d_m_doStep_399 ?_
  refine y_iload_n cx (pc := 402) d_m_doStep_402 rfl 2 rfl ?_
  refine y_aload_n cx (pc := 403) d_m_doStep_403 rfl 4 rfl ?_
  refine y_get cx (pc := 404) (j := 42) (v := .int (σ9 58 42)) (le_b rfl) ck_Md kw_790 (le_b rfl) (gf_58_42 Δ _) d_m_doStep_404 ?_
  refine y_if_ne cx (pc := 407) (tgt := 415) d_m_doStep_407 (by decide) (fun hc => ?_) (fun hc => ?_)
  · replace h := h.1 hc
    refine y_aload_n cx (pc := 415) d_m_doStep_415 rfl 4 rfl ?_
    refine y_get cx (pc := 416) (j := 43) (v := .ref (Δ.1 85)) (le_b rfl) ck_Md kw_791 (le_b rfl) (gf_58_43 Δ _) d_m_doStep_416 ?_
    refine y_iload_n cx (pc := 419) d_m_doStep_419 rfl 2 rfl ?_
    obtain ⟨h0, h⟩ := h
    refine y_iald cx (pc := 420) ⟨(le_b rfl), fun _ => rfl⟩ h0 d_m_doStep_420 ?_
    refine y_sub [5] rfl ?_
    exact b_m_doStep_421 cx p1 (σ9 85 (x2.toNatClampNeg)) x2 σ9 h
  · replace h := h.2 hc
    refine y_iload cx (pc := 410) d_m_doStep_410 0 rfl ?_
    refine y_goto cx (pc := 412) (tgt := 421) d_m_doStep_412 (by decide) ?_
    refine y_sub [5] rfl ?_
    exact b_m_doStep_421 cx p1 x8 x2 σ9 h
theorem c_m_doStep {l : Launch} (hfl : l.flags = flags0) (Δ : Ly) (p1 : Int32) (σ : Sg) (Q : Int32 → Sg → Prop) (h : w_m_doStep p1 σ Q) : Ct l Δ mi_m_doStep [.ref (Δ.1 58), .int p1] σ (qI Q) noE :=
  Ct.of hfl (by show plainFor ⟨"GuardedMovesModel", "doStep", "(I)I"⟩ = true; decide +kernel) rfl (le_b rfl) (fun G hl cx => b_m_doStep cx p1 σ h)
def mi_m_run : Mi := ("GuardedMovesModel", prog_6_method_57_code, 2, [], (some .int), 3, 85, 0, 0, ⟨"GuardedMovesModel", "run", "()I"⟩)
theorem d_m_run_0 : decode prog_6_method_57_code 0 = .ok (.aload_n 0, 1) := by decide +kernel
theorem d_m_run_1 : decode prog_6_method_57_code 1 = .ok (.aload_n 0, 1) := by decide +kernel
theorem d_m_run_2 : decode prog_6_method_57_code 2 = .ok (.getfield 195, 3) := by decide +kernel
theorem d_m_run_5 : decode prog_6_method_57_code 5 = .ok (.iconst 1, 1) := by decide +kernel
theorem d_m_run_6 : decode prog_6_method_57_code 6 = .ok (.invokevirtual 111, 3) := by decide +kernel
theorem d_m_run_9 : decode prog_6_method_57_code 9 = .ok (.ifCond .ne 5, 3) := by decide +kernel
theorem d_m_run_12 : decode prog_6_method_57_code 12 = .ok (.iconst 0, 1) := by decide +kernel
theorem d_m_run_13 : decode prog_6_method_57_code 13 = .ok (.ireturn, 1) := by decide +kernel
theorem d_m_run_14 : decode prog_6_method_57_code 14 = .ok (.aload_n 0, 1) := by decide +kernel
theorem d_m_run_15 : decode prog_6_method_57_code 15 = .ok (.invokevirtual 304, 3) := by decide +kernel
theorem d_m_run_18 : decode prog_6_method_57_code 18 = .ok (.iconst 0, 1) := by decide +kernel
theorem d_m_run_19 : decode prog_6_method_57_code 19 = .ok (.istore_n 1, 1) := by decide +kernel
theorem d_m_run_20 : decode prog_6_method_57_code 20 = .ok (.iload_n 1, 1) := by decide +kernel
theorem d_m_run_21 : decode prog_6_method_57_code 21 = .ok (.aload_n 0, 1) := by decide +kernel
theorem d_m_run_22 : decode prog_6_method_57_code 22 = .ok (.getfield 199, 3) := by decide +kernel
theorem d_m_run_25 : decode prog_6_method_57_code 25 = .ok (.if_icmp .ge 29, 3) := by decide +kernel
theorem d_m_run_28 : decode prog_6_method_57_code 28 = .ok (.aload_n 0, 1) := by decide +kernel
theorem d_m_run_29 : decode prog_6_method_57_code 29 = .ok (.getfield 288, 3) := by decide +kernel
theorem d_m_run_32 : decode prog_6_method_57_code 32 = .ok (.ifCond .ne 22, 3) := by decide +kernel
theorem d_m_run_35 : decode prog_6_method_57_code 35 = .ok (.aload_n 0, 1) := by decide +kernel
theorem d_m_run_36 : decode prog_6_method_57_code 36 = .ok (.dup, 1) := by decide +kernel
theorem d_m_run_37 : decode prog_6_method_57_code 37 = .ok (.getfield 285, 3) := by decide +kernel
theorem d_m_run_40 : decode prog_6_method_57_code 40 = .ok (.iconst 1, 1) := by decide +kernel
theorem d_m_run_41 : decode prog_6_method_57_code 41 = .ok (.iadd, 1) := by decide +kernel
theorem d_m_run_42 : decode prog_6_method_57_code 42 = .ok (.putfield 285, 3) := by decide +kernel
theorem d_m_run_45 : decode prog_6_method_57_code 45 = .ok (.aload_n 0, 1) := by decide +kernel
theorem d_m_run_46 : decode prog_6_method_57_code 46 = .ok (.iload_n 1, 1) := by decide +kernel
theorem d_m_run_47 : decode prog_6_method_57_code 47 = .ok (.invokevirtual 316, 3) := by decide +kernel
theorem d_m_run_50 : decode prog_6_method_57_code 50 = .ok (.istore_n 1, 1) := by decide +kernel
theorem d_m_run_51 : decode prog_6_method_57_code 51 = .ok (.goto (-31), 3) := by decide +kernel
theorem d_m_run_54 : decode prog_6_method_57_code 54 = .ok (.aload_n 0, 1) := by decide +kernel
theorem d_m_run_55 : decode prog_6_method_57_code 55 = .ok (.invokevirtual 313, 3) := by decide +kernel
theorem d_m_run_58 : decode prog_6_method_57_code 58 = .ok (.aload_n 0, 1) := by decide +kernel
theorem d_m_run_59 : decode prog_6_method_57_code 59 = .ok (.getfield 288, 3) := by decide +kernel
theorem d_m_run_62 : decode prog_6_method_57_code 62 = .ok (.ireturn, 1) := by decide +kernel
theorem kc_m_run : Kw (m_w (mi_m_run )) := ⟨(in_t5 (List.mem_of_getElem? (i := 153) rfl)), rfl⟩
theorem mv_m_run : MV (mi_m_run ) "GuardedMovesModel" 0 := ⟨kw_1111, kw_1112, kc_m_run , kw_7, ⟨⟨(by show ("GuardedMovesModel" : String) ≠ "java/lang/invoke/MethodHandle"; decide), (by show ("GuardedMovesModel" : String) ≠ "java/lang/invoke/VarHandle"; decide)⟩, (by show (parseMethodDescriptor "()I").map (fun d => d.parameters.length) = some 0; decide +kernel)⟩⟩
def w_m_run_54 (Q : Int32 → Sg → Prop) (σ : Sg) : Prop := w_m_leave σ (fun σ1 => Q (σ1 58 42) σ1)
theorem b_m_run_54 {Δ : Ly} {G : Gm} {Q : Int32 → Sg → Prop} (cx : Cx Δ G mi_m_run) : ∀ (σ : Sg), w_m_run_54 Q σ → Y Δ G mi_m_run (qI Q) noE 0 0 σ 54 [(0, .ref (Δ.1 58))] [] := by
  intro σ h
  unfold w_m_run_54 at h
  refine y_aload_n cx (pc := 54) d_m_run_54 rfl 0 rfl ?_
  refine y_vV cx (pc := 55) (st := []) [] (c_m_leave cx.fl Δ _ _ h) mv_m_leave kw_1106 (oc_58 Δ) ck_Md rfl (le_b rfl) (le_b rfl) (le_b rfl) (le_b rfl) (le_b rfl) d_m_run_55 (fun σ1 h => ?_) (fun x σ1 h => yt_no h)
  refine y_aload_n cx (pc := 58) d_m_run_58 rfl 0 rfl ?_
  refine y_get cx (pc := 59) (j := 42) (v := .int (σ1 58 42)) (le_b rfl) ck_Md kw_790 (le_b rfl) (gf_58_42 Δ _) d_m_run_59 ?_
  exact y_iret cx (pc := 62) rfl d_m_run_62 (le_b rfl) (le_b rfl) h
def w_m_run_20 (Q : Int32 → Sg → Prop) : Nat → Int32 → Sg → Prop
  | 0, _, _ => False
  | n + 1, v1, σ => ((σ 58 20) ≤ v1 → (w_m_run_54 Q σ)) ∧ (¬ (σ 58 20) ≤ v1 → ((¬ (σ 58 42) = 0 → (w_m_run_54 Q σ)) ∧ ((σ 58 42) = 0 → (w_m_doStep v1 (up σ 58 41 ((σ 58 41) + 1)) (fun x1 σ2 => (w_m_run_20 Q n) x1 σ2)))))
theorem b_m_run_20 {Δ : Ly} {G : Gm} {Q : Int32 → Sg → Prop} (cx : Cx Δ G mi_m_run) : ∀ (n : Nat) (v1 : Int32) (σ : Sg), w_m_run_20 Q n v1 σ → Y Δ G mi_m_run (qI Q) noE 0 0 σ 20 [(0, .ref (Δ.1 58)), (1, .int v1)] [] := by
  intro n
  induction n with
  | zero => intro v1 σ h; exact h.elim
  | succ n ih =>
    intro v1 σ h
    unfold w_m_run_20 at h
    refine y_iload_n cx (pc := 20) d_m_run_20 rfl 1 rfl ?_
    refine y_aload_n cx (pc := 21) d_m_run_21 rfl 0 rfl ?_
    refine y_get cx (pc := 22) (j := 20) (v := .int (σ 58 20)) (le_b rfl) ck_Md kw_768 (le_b rfl) (gf_58_20 Δ _) d_m_run_22 ?_
    refine y_icmp_ge cx (pc := 25) (tgt := 54) d_m_run_25 (by decide) (fun hc => ?_) (fun hc => ?_)
    · replace h := h.1 hc
      refine y_sub [0] rfl ?_
      exact b_m_run_54 cx σ h
    · replace h := h.2 hc
      refine y_aload_n cx (pc := 28) d_m_run_28 rfl 0 rfl ?_
      refine y_get cx (pc := 29) (j := 42) (v := .int (σ 58 42)) (le_b rfl) ck_Md kw_790 (le_b rfl) (gf_58_42 Δ _) d_m_run_29 ?_
      refine y_if_ne cx (pc := 32) (tgt := 54) d_m_run_32 (by decide) (fun hc => ?_) (fun hc => ?_)
      · replace h := h.1 hc
        refine y_sub [0] rfl ?_
        exact b_m_run_54 cx σ h
      · replace h := h.2 hc
        refine y_aload_n cx (pc := 35) d_m_run_35 rfl 0 rfl ?_
        refine y_dup cx (pc := 36) rfl d_m_run_36 ?_
        refine y_get cx (pc := 37) (j := 41) (v := .int (σ 58 41)) (le_b rfl) ck_Md kw_789 (le_b rfl) (gf_58_41 Δ _) d_m_run_37 ?_
        refine y_iconst cx (pc := 40) ic_1 d_m_run_40 ?_
        refine y_iadd cx (pc := 41) d_m_run_41 ?_
        refine y_put cx (pc := 42) (j := 41) (ty := .int) (le_b rfl) ck_Md kw_789 (le_b rfl) rfl (t_Md_ok 41 (le_b rfl)) rfl rfl (pf_58_41 Δ) d_m_run_42 ?_
        refine y_aload_n cx (pc := 45) d_m_run_45 rfl 0 rfl ?_
        refine y_iload_n cx (pc := 46) d_m_run_46 rfl 1 rfl ?_
        refine y_vI cx (pc := 47) (st := []) [.int v1] (c_m_doStep cx.fl Δ v1 _ _ h) mv_m_doStep kw_1114 (oc_58 Δ) ck_Md rfl (le_b rfl) (le_b rfl) (le_b rfl) (le_b rfl) (le_b rfl) d_m_run_47 (fun x1 σ2 h => ?_) (fun x σ2 h => yt_no h)
        refine y_istore_n (lv' := [(1, .int x1), (0, .ref (Δ.1 58))]) cx (pc := 50) d_m_run_50 rfl (le_b rfl) rfl ?_
        refine y_goto cx (pc := 51) (tgt := 20) d_m_run_51 (by decide) ?_
        refine y_sub [1, 0] rfl ?_
        exact ih x1 σ2 h
def w_m_run (σ : Sg) (Q : Int32 → Sg → Prop) : Prop := w_m_may (σ 58 22) 1 σ (fun x1 σ2 => (¬ x1 = 0 → (w_m_begin σ2 (fun σ3 => ∃ q20, w_m_run_20 Q q20 0 σ3))) ∧ (x1 = 0 → (Q 0 σ2)))
theorem b_m_run {Δ : Ly} {G : Gm} {Q : Int32 → Sg → Prop} (cx : Cx Δ G mi_m_run) (σ : Sg) (h : w_m_run σ Q) : Y Δ G mi_m_run (qI Q) noE 0 0 σ 0 [(0, .ref (Δ.1 58))] [] := by
  unfold w_m_run at h
  refine y_aload_n cx (pc := 0) d_m_run_0 rfl 0 rfl ?_
  refine y_aload_n cx (pc := 1) d_m_run_1 rfl 0 rfl ?_
  refine y_get cx (pc := 2) (j := 22) (v := .int (σ 58 22)) (le_b rfl) ck_Md kw_770 (le_b rfl) (gf_58_22 Δ _) d_m_run_2 ?_
  refine y_iconst cx (pc := 5) ic_1 d_m_run_5 ?_
  refine y_vI cx (pc := 6) (st := []) [.int (σ 58 22), .int 1] (c_m_may cx.fl Δ (σ 58 22) 1 _ _ h) mv_m_may kw_896 (oc_58 Δ) ck_Md rfl (le_b rfl) (le_b rfl) (le_b rfl) (le_b rfl) (le_b rfl) d_m_run_6 (fun x1 σ2 h => ?_) (fun x σ2 h => yt_no h)
  refine y_if_ne cx (pc := 9) (tgt := 14) d_m_run_9 (by decide) (fun hc => ?_) (fun hc => ?_)
  · replace h := h.1 hc
    refine y_aload_n cx (pc := 14) d_m_run_14 rfl 0 rfl ?_
    refine y_vV cx (pc := 15) (st := []) [] (c_m_begin cx.fl Δ _ _ h) mv_m_begin kw_1078 (oc_58 Δ) ck_Md rfl (le_b rfl) (le_b rfl) (le_b rfl) (le_b rfl) (le_b rfl) d_m_run_15 (fun σ3 h => ?_) (fun x σ3 h => yt_no h)
    refine y_iconst cx (pc := 18) ic_0 d_m_run_18 ?_
    refine y_istore_n (lv' := [(1, .int 0), (0, .ref (Δ.1 58))]) cx (pc := 19) d_m_run_19 rfl (le_b rfl) rfl ?_
    refine y_sub [1, 0] rfl ?_
    obtain ⟨n, h⟩ := h
    exact b_m_run_20 cx n 0 σ3 h
  · replace h := h.2 hc
    refine y_iconst cx (pc := 12) ic_0 d_m_run_12 ?_
    exact y_iret cx (pc := 13) rfl d_m_run_13 (le_b rfl) (le_b rfl) h
theorem c_m_run {l : Launch} (hfl : l.flags = flags0) (Δ : Ly) (σ : Sg) (Q : Int32 → Sg → Prop) (h : w_m_run σ Q) : Ct l Δ mi_m_run [.ref (Δ.1 58)] σ (qI Q) noE :=
  Ct.of hfl (by show plainFor ⟨"GuardedMovesModel", "run", "()I"⟩ = true; decide +kernel) rfl (le_b rfl) (fun G hl cx => b_m_run cx σ h)
def mi_m_left : Mi := ("GuardedMovesModel", prog_6_method_59_code, 2, [], (some .int), 1, 29, 0, 0, ⟨"GuardedMovesModel", "left", "(I)I"⟩)
theorem d_m_left_0 : decode prog_6_method_59_code 0 = .ok (.aload_n 0, 1) := by decide +kernel
theorem d_m_left_1 : decode prog_6_method_59_code 1 = .ok (.iload_n 1, 1) := by decide +kernel
theorem d_m_left_2 : decode prog_6_method_59_code 2 = .ok (.i2l, 1) := by decide +kernel
theorem d_m_left_3 : decode prog_6_method_59_code 3 = .ok (.lconst 0, 1) := by decide +kernel
theorem d_m_left_4 : decode prog_6_method_59_code 4 = .ok (.ldc2_w 105, 3) := by decide +kernel
theorem d_m_left_7 : decode prog_6_method_59_code 7 = .ok (.invokestatic 107, 3) := by decide +kernel
theorem d_m_left_10 : decode prog_6_method_59_code 10 = .ok (.iconst 1, 1) := by decide +kernel
theorem d_m_left_11 : decode prog_6_method_59_code 11 = .ok (.invokevirtual 111, 3) := by decide +kernel
theorem d_m_left_14 : decode prog_6_method_59_code 14 = .ok (.ifCond .eq 12, 3) := by decide +kernel
theorem d_m_left_17 : decode prog_6_method_59_code 17 = .ok (.aload_n 0, 1) := by decide +kernel
theorem d_m_left_18 : decode prog_6_method_59_code 18 = .ok (.getfield 84, 3) := by decide +kernel
theorem d_m_left_21 : decode prog_6_method_59_code 21 = .ok (.iload_n 1, 1) := by decide +kernel
theorem d_m_left_22 : decode prog_6_method_59_code 22 = .ok (.iaload, 1) := by decide +kernel
theorem d_m_left_23 : decode prog_6_method_59_code 23 = .ok (.goto 4, 3) := by decide +kernel
theorem d_m_left_26 : decode prog_6_method_59_code 26 = .ok (.iconst 0, 1) := by decide +kernel
theorem d_m_left_27 : decode prog_6_method_59_code 27 = .ok (.ireturn, 1) := by decide +kernel
theorem kc_m_left : Kw (m_w (mi_m_left )) := ⟨(in_t5 (List.mem_of_getElem? (i := 161) rfl)), rfl⟩
theorem mv_m_left : MV (mi_m_left ) "GuardedMovesModel" 1 := ⟨kw_1119, kw_1120, kc_m_left , kw_7, ⟨⟨(by show ("GuardedMovesModel" : String) ≠ "java/lang/invoke/MethodHandle"; decide), (by show ("GuardedMovesModel" : String) ≠ "java/lang/invoke/VarHandle"; decide)⟩, (by show (parseMethodDescriptor "(I)I").map (fun d => d.parameters.length) = some 1; decide +kernel)⟩⟩
def w_m_left_27 (Q : Int32 → Sg → Prop) (s0 : Int32) (σ : Sg) : Prop := Q s0 σ
theorem b_m_left_27 {Δ : Ly} {G : Gm} {Q : Int32 → Sg → Prop} (cx : Cx Δ G mi_m_left) : ∀ (s0 : Int32) (σ : Sg), w_m_left_27 Q s0 σ → Y Δ G mi_m_left (qI Q) noE 0 0 σ 27 [] [.int s0] := by
  intro s0 σ h
  unfold w_m_left_27 at h
  exact y_iret cx (pc := 27) rfl d_m_left_27 (le_b rfl) (le_b rfl) h
def w_m_left (p1 : Int32) (σ : Sg) (Q : Int32 → Sg → Prop) : Prop := w_m_isIn (p1.toInt64) 0 15 σ (fun x1 σ2 => w_m_may x1 1 σ2 (fun x3 σ4 => (x3 = 0 → (w_m_left_27 Q 0 σ4)) ∧ (¬ x3 = 0 → (vp_in p1 16 ∧ (w_m_left_27 Q (σ4 82 (p1.toNatClampNeg)) σ4)))))
theorem b_m_left {Δ : Ly} {G : Gm} {Q : Int32 → Sg → Prop} (cx : Cx Δ G mi_m_left) (p1 : Int32) (σ : Sg) (h : w_m_left p1 σ Q) : Y Δ G mi_m_left (qI Q) noE 0 0 σ 0 [(0, .ref (Δ.1 58)), (1, .int p1)] [] := by
  unfold w_m_left at h
  refine y_aload_n cx (pc := 0) d_m_left_0 rfl 0 rfl ?_
  refine y_iload_n cx (pc := 1) d_m_left_1 rfl 1 rfl ?_
  refine y_i2l cx (pc := 2) d_m_left_2 ?_
  refine y_lconst cx (pc := 3) (v := 0) lc_0 d_m_left_3 ?_
  refine y_ldc2 cx (pc := 4) kw_892 d_m_left_4 ?_
  refine y_sI cx (pc := 7) (st := [.ref (Δ.1 58)]) [.long (p1.toInt64), .long 0, .long 15] (c_m_isIn cx.fl Δ (p1.toInt64) 0 15 _ _ h) mv_m_isIn kw_893 rfl (le_b rfl) (le_b rfl) (le_b rfl) (le_b rfl) (le_b rfl) d_m_left_7 (fun x1 σ2 h => ?_) (fun x σ2 h => yt_no h)
  refine y_iconst cx (pc := 10) ic_1 d_m_left_10 ?_
  refine y_vI cx (pc := 11) (st := []) [.int x1, .int 1] (c_m_may cx.fl Δ x1 1 _ _ h) mv_m_may kw_896 (oc_58 Δ) ck_Md rfl (le_b rfl) (le_b rfl) (le_b rfl) (le_b rfl) (le_b rfl) d_m_left_11 (fun x3 σ4 h => ?_) (fun x σ4 h => yt_no h)
  refine y_if_eq cx (pc := 14) (tgt := 26) d_m_left_14 (by decide) (fun hc => ?_) (fun hc => ?_)
  · replace h := h.1 hc
    refine y_iconst cx (pc := 26) ic_0 d_m_left_26 ?_
    refine y_sub [] rfl ?_
    exact b_m_left_27 cx 0 σ4 h
  · replace h := h.2 hc
    refine y_aload_n cx (pc := 17) d_m_left_17 rfl 0 rfl ?_
    refine y_get cx (pc := 18) (j := 36) (v := .ref (Δ.1 82)) (le_b rfl) ck_Md kw_784 (le_b rfl) (gf_58_36 Δ _) d_m_left_18 ?_
    refine y_iload_n cx (pc := 21) d_m_left_21 rfl 1 rfl ?_
    obtain ⟨h0, h⟩ := h
    refine y_iald cx (pc := 22) ⟨(le_b rfl), fun _ => rfl⟩ h0 d_m_left_22 ?_
    refine y_goto cx (pc := 23) (tgt := 27) d_m_left_23 (by decide) ?_
    refine y_sub [] rfl ?_
    exact b_m_left_27 cx (σ4 82 (p1.toNatClampNeg)) σ4 h
theorem c_m_left {l : Launch} (hfl : l.flags = flags0) (Δ : Ly) (p1 : Int32) (σ : Sg) (Q : Int32 → Sg → Prop) (h : w_m_left p1 σ Q) : Ct l Δ mi_m_left [.ref (Δ.1 58), .int p1] σ (qI Q) noE :=
  Ct.of hfl (by show plainFor ⟨"GuardedMovesModel", "left", "(I)I"⟩ = true; decide +kernel) rfl (le_b rfl) (fun G hl cx => b_m_left cx p1 σ h)
def mi_m_kept : Mi := ("GuardedMovesModel", prog_6_method_60_code, 2, [], (some .int), 1, 29, 0, 0, ⟨"GuardedMovesModel", "kept", "(I)I"⟩)
theorem d_m_kept_0 : decode prog_6_method_60_code 0 = .ok (.aload_n 0, 1) := by decide +kernel
theorem d_m_kept_1 : decode prog_6_method_60_code 1 = .ok (.iload_n 1, 1) := by decide +kernel
theorem d_m_kept_2 : decode prog_6_method_60_code 2 = .ok (.i2l, 1) := by decide +kernel
theorem d_m_kept_3 : decode prog_6_method_60_code 3 = .ok (.lconst 0, 1) := by decide +kernel
theorem d_m_kept_4 : decode prog_6_method_60_code 4 = .ok (.ldc2_w 115, 3) := by decide +kernel
theorem d_m_kept_7 : decode prog_6_method_60_code 7 = .ok (.invokestatic 107, 3) := by decide +kernel
theorem d_m_kept_10 : decode prog_6_method_60_code 10 = .ok (.iconst 1, 1) := by decide +kernel
theorem d_m_kept_11 : decode prog_6_method_60_code 11 = .ok (.invokevirtual 111, 3) := by decide +kernel
theorem d_m_kept_14 : decode prog_6_method_60_code 14 = .ok (.ifCond .eq 12, 3) := by decide +kernel
theorem d_m_kept_17 : decode prog_6_method_60_code 17 = .ok (.aload_n 0, 1) := by decide +kernel
theorem d_m_kept_18 : decode prog_6_method_60_code 18 = .ok (.getfield 87, 3) := by decide +kernel
theorem d_m_kept_21 : decode prog_6_method_60_code 21 = .ok (.iload_n 1, 1) := by decide +kernel
theorem d_m_kept_22 : decode prog_6_method_60_code 22 = .ok (.iaload, 1) := by decide +kernel
theorem d_m_kept_23 : decode prog_6_method_60_code 23 = .ok (.goto 4, 3) := by decide +kernel
theorem d_m_kept_26 : decode prog_6_method_60_code 26 = .ok (.iconst 0, 1) := by decide +kernel
theorem d_m_kept_27 : decode prog_6_method_60_code 27 = .ok (.ireturn, 1) := by decide +kernel
theorem kc_m_kept : Kw (m_w (mi_m_kept )) := ⟨(in_t5 (List.mem_of_getElem? (i := 165) rfl)), rfl⟩
theorem mv_m_kept : MV (mi_m_kept ) "GuardedMovesModel" 1 := ⟨kw_1123, kw_1124, kc_m_kept , kw_7, ⟨⟨(by show ("GuardedMovesModel" : String) ≠ "java/lang/invoke/MethodHandle"; decide), (by show ("GuardedMovesModel" : String) ≠ "java/lang/invoke/VarHandle"; decide)⟩, (by show (parseMethodDescriptor "(I)I").map (fun d => d.parameters.length) = some 1; decide +kernel)⟩⟩
def w_m_kept_27 (Q : Int32 → Sg → Prop) (s0 : Int32) (σ : Sg) : Prop := Q s0 σ
theorem b_m_kept_27 {Δ : Ly} {G : Gm} {Q : Int32 → Sg → Prop} (cx : Cx Δ G mi_m_kept) : ∀ (s0 : Int32) (σ : Sg), w_m_kept_27 Q s0 σ → Y Δ G mi_m_kept (qI Q) noE 0 0 σ 27 [] [.int s0] := by
  intro s0 σ h
  unfold w_m_kept_27 at h
  exact y_iret cx (pc := 27) rfl d_m_kept_27 (le_b rfl) (le_b rfl) h
def w_m_kept (p1 : Int32) (σ : Sg) (Q : Int32 → Sg → Prop) : Prop := w_m_isIn (p1.toInt64) 0 31 σ (fun x1 σ2 => w_m_may x1 1 σ2 (fun x3 σ4 => (x3 = 0 → (w_m_kept_27 Q 0 σ4)) ∧ (¬ x3 = 0 → (vp_in p1 32 ∧ (w_m_kept_27 Q (σ4 83 (p1.toNatClampNeg)) σ4)))))
theorem b_m_kept {Δ : Ly} {G : Gm} {Q : Int32 → Sg → Prop} (cx : Cx Δ G mi_m_kept) (p1 : Int32) (σ : Sg) (h : w_m_kept p1 σ Q) : Y Δ G mi_m_kept (qI Q) noE 0 0 σ 0 [(0, .ref (Δ.1 58)), (1, .int p1)] [] := by
  unfold w_m_kept at h
  refine y_aload_n cx (pc := 0) d_m_kept_0 rfl 0 rfl ?_
  refine y_iload_n cx (pc := 1) d_m_kept_1 rfl 1 rfl ?_
  refine y_i2l cx (pc := 2) d_m_kept_2 ?_
  refine y_lconst cx (pc := 3) (v := 0) lc_0 d_m_kept_3 ?_
  refine y_ldc2 cx (pc := 4) kw_904 d_m_kept_4 ?_
  refine y_sI cx (pc := 7) (st := [.ref (Δ.1 58)]) [.long (p1.toInt64), .long 0, .long 31] (c_m_isIn cx.fl Δ (p1.toInt64) 0 31 _ _ h) mv_m_isIn kw_893 rfl (le_b rfl) (le_b rfl) (le_b rfl) (le_b rfl) (le_b rfl) d_m_kept_7 (fun x1 σ2 h => ?_) (fun x σ2 h => yt_no h)
  refine y_iconst cx (pc := 10) ic_1 d_m_kept_10 ?_
  refine y_vI cx (pc := 11) (st := []) [.int x1, .int 1] (c_m_may cx.fl Δ x1 1 _ _ h) mv_m_may kw_896 (oc_58 Δ) ck_Md rfl (le_b rfl) (le_b rfl) (le_b rfl) (le_b rfl) (le_b rfl) d_m_kept_11 (fun x3 σ4 h => ?_) (fun x σ4 h => yt_no h)
  refine y_if_eq cx (pc := 14) (tgt := 26) d_m_kept_14 (by decide) (fun hc => ?_) (fun hc => ?_)
  · replace h := h.1 hc
    refine y_iconst cx (pc := 26) ic_0 d_m_kept_26 ?_
    refine y_sub [] rfl ?_
    exact b_m_kept_27 cx 0 σ4 h
  · replace h := h.2 hc
    refine y_aload_n cx (pc := 17) d_m_kept_17 rfl 0 rfl ?_
    refine y_get cx (pc := 18) (j := 37) (v := .ref (Δ.1 83)) (le_b rfl) ck_Md kw_785 (le_b rfl) (gf_58_37 Δ _) d_m_kept_18 ?_
    refine y_iload_n cx (pc := 21) d_m_kept_21 rfl 1 rfl ?_
    obtain ⟨h0, h⟩ := h
    refine y_iald cx (pc := 22) ⟨(le_b rfl), fun _ => rfl⟩ h0 d_m_kept_22 ?_
    refine y_goto cx (pc := 23) (tgt := 27) d_m_kept_23 (by decide) ?_
    refine y_sub [] rfl ?_
    exact b_m_kept_27 cx (σ4 83 (p1.toNatClampNeg)) σ4 h
theorem c_m_kept {l : Launch} (hfl : l.flags = flags0) (Δ : Ly) (p1 : Int32) (σ : Sg) (Q : Int32 → Sg → Prop) (h : w_m_kept p1 σ Q) : Ct l Δ mi_m_kept [.ref (Δ.1 58), .int p1] σ (qI Q) noE :=
  Ct.of hfl (by show plainFor ⟨"GuardedMovesModel", "kept", "(I)I"⟩ = true; decide +kernel) rfl (le_b rfl) (fun G hl cx => b_m_kept cx p1 σ h)
def mi_m_output : Mi := ("GuardedMovesModel", prog_6_method_61_code, 2, [], (some .int), 1, 29, 0, 0, ⟨"GuardedMovesModel", "output", "(I)I"⟩)
theorem d_m_output_0 : decode prog_6_method_61_code 0 = .ok (.aload_n 0, 1) := by decide +kernel
theorem d_m_output_1 : decode prog_6_method_61_code 1 = .ok (.iload_n 1, 1) := by decide +kernel
theorem d_m_output_2 : decode prog_6_method_61_code 2 = .ok (.i2l, 1) := by decide +kernel
theorem d_m_output_3 : decode prog_6_method_61_code 3 = .ok (.lconst 0, 1) := by decide +kernel
theorem d_m_output_4 : decode prog_6_method_61_code 4 = .ok (.aload_n 0, 1) := by decide +kernel
theorem d_m_output_5 : decode prog_6_method_61_code 5 = .ok (.getfield 282, 3) := by decide +kernel
theorem d_m_output_8 : decode prog_6_method_61_code 8 = .ok (.iconst 1, 1) := by decide +kernel
theorem d_m_output_9 : decode prog_6_method_61_code 9 = .ok (.isub, 1) := by decide +kernel
theorem d_m_output_10 : decode prog_6_method_61_code 10 = .ok (.i2l, 1) := by decide +kernel
theorem d_m_output_11 : decode prog_6_method_61_code 11 = .ok (.invokestatic 107, 3) := by decide +kernel
theorem d_m_output_14 : decode prog_6_method_61_code 14 = .ok (.iconst 1, 1) := by decide +kernel
theorem d_m_output_15 : decode prog_6_method_61_code 15 = .ok (.invokevirtual 111, 3) := by decide +kernel
theorem d_m_output_18 : decode prog_6_method_61_code 18 = .ok (.ifCond .eq 12, 3) := by decide +kernel
theorem d_m_output_21 : decode prog_6_method_61_code 21 = .ok (.aload_n 0, 1) := by decide +kernel
theorem d_m_output_22 : decode prog_6_method_61_code 22 = .ok (.getfield 90, 3) := by decide +kernel
theorem d_m_output_25 : decode prog_6_method_61_code 25 = .ok (.iload_n 1, 1) := by decide +kernel
theorem d_m_output_26 : decode prog_6_method_61_code 26 = .ok (.iaload, 1) := by decide +kernel
theorem d_m_output_27 : decode prog_6_method_61_code 27 = .ok (.goto 4, 3) := by decide +kernel
theorem d_m_output_30 : decode prog_6_method_61_code 30 = .ok (.iconst 0, 1) := by decide +kernel
theorem d_m_output_31 : decode prog_6_method_61_code 31 = .ok (.ireturn, 1) := by decide +kernel
theorem kc_m_output : Kw (m_w (mi_m_output )) := ⟨(in_t5 (List.mem_of_getElem? (i := 169) rfl)), rfl⟩
theorem mv_m_output : MV (mi_m_output ) "GuardedMovesModel" 1 := ⟨kw_1127, kw_1128, kc_m_output , kw_7, ⟨⟨(by show ("GuardedMovesModel" : String) ≠ "java/lang/invoke/MethodHandle"; decide), (by show ("GuardedMovesModel" : String) ≠ "java/lang/invoke/VarHandle"; decide)⟩, (by show (parseMethodDescriptor "(I)I").map (fun d => d.parameters.length) = some 1; decide +kernel)⟩⟩
def w_m_output_31 (Q : Int32 → Sg → Prop) (s0 : Int32) (σ : Sg) : Prop := Q s0 σ
theorem b_m_output_31 {Δ : Ly} {G : Gm} {Q : Int32 → Sg → Prop} (cx : Cx Δ G mi_m_output) : ∀ (s0 : Int32) (σ : Sg), w_m_output_31 Q s0 σ → Y Δ G mi_m_output (qI Q) noE 0 0 σ 31 [] [.int s0] := by
  intro s0 σ h
  unfold w_m_output_31 at h
  exact y_iret cx (pc := 31) rfl d_m_output_31 (le_b rfl) (le_b rfl) h
def w_m_output (p1 : Int32) (σ : Sg) (Q : Int32 → Sg → Prop) : Prop := w_m_isIn (p1.toInt64) 0 (((σ 58 39) - 1).toInt64) σ (fun x1 σ2 => w_m_may x1 1 σ2 (fun x3 σ4 => (x3 = 0 → (w_m_output_31 Q 0 σ4)) ∧ (¬ x3 = 0 → (vp_in p1 60 ∧ (w_m_output_31 Q (σ4 84 (p1.toNatClampNeg)) σ4)))))
theorem b_m_output {Δ : Ly} {G : Gm} {Q : Int32 → Sg → Prop} (cx : Cx Δ G mi_m_output) (p1 : Int32) (σ : Sg) (h : w_m_output p1 σ Q) : Y Δ G mi_m_output (qI Q) noE 0 0 σ 0 [(0, .ref (Δ.1 58)), (1, .int p1)] [] := by
  unfold w_m_output at h
  refine y_aload_n cx (pc := 0) d_m_output_0 rfl 0 rfl ?_
  refine y_iload_n cx (pc := 1) d_m_output_1 rfl 1 rfl ?_
  refine y_i2l cx (pc := 2) d_m_output_2 ?_
  refine y_lconst cx (pc := 3) (v := 0) lc_0 d_m_output_3 ?_
  refine y_aload_n cx (pc := 4) d_m_output_4 rfl 0 rfl ?_
  refine y_get cx (pc := 5) (j := 39) (v := .int (σ 58 39)) (le_b rfl) ck_Md kw_787 (le_b rfl) (gf_58_39 Δ _) d_m_output_5 ?_
  refine y_iconst cx (pc := 8) ic_1 d_m_output_8 ?_
  refine y_isub cx (pc := 9) d_m_output_9 ?_
  refine y_i2l cx (pc := 10) d_m_output_10 ?_
  refine y_sI cx (pc := 11) (st := [.ref (Δ.1 58)]) [.long (p1.toInt64), .long 0, .long (((σ 58 39) - 1).toInt64)] (c_m_isIn cx.fl Δ (p1.toInt64) 0 (((σ 58 39) - 1).toInt64) _ _ h) mv_m_isIn kw_893 rfl (le_b rfl) (le_b rfl) (le_b rfl) (le_b rfl) (le_b rfl) d_m_output_11 (fun x1 σ2 h => ?_) (fun x σ2 h => yt_no h)
  refine y_iconst cx (pc := 14) ic_1 d_m_output_14 ?_
  refine y_vI cx (pc := 15) (st := []) [.int x1, .int 1] (c_m_may cx.fl Δ x1 1 _ _ h) mv_m_may kw_896 (oc_58 Δ) ck_Md rfl (le_b rfl) (le_b rfl) (le_b rfl) (le_b rfl) (le_b rfl) d_m_output_15 (fun x3 σ4 h => ?_) (fun x σ4 h => yt_no h)
  refine y_if_eq cx (pc := 18) (tgt := 30) d_m_output_18 (by decide) (fun hc => ?_) (fun hc => ?_)
  · replace h := h.1 hc
    refine y_iconst cx (pc := 30) ic_0 d_m_output_30 ?_
    refine y_sub [] rfl ?_
    exact b_m_output_31 cx 0 σ4 h
  · replace h := h.2 hc
    refine y_aload_n cx (pc := 21) d_m_output_21 rfl 0 rfl ?_
    refine y_get cx (pc := 22) (j := 38) (v := .ref (Δ.1 84)) (le_b rfl) ck_Md kw_786 (le_b rfl) (gf_58_38 Δ _) d_m_output_22 ?_
    refine y_iload_n cx (pc := 25) d_m_output_25 rfl 1 rfl ?_
    obtain ⟨h0, h⟩ := h
    refine y_iald cx (pc := 26) ⟨(le_b rfl), fun _ => rfl⟩ h0 d_m_output_26 ?_
    refine y_goto cx (pc := 27) (tgt := 31) d_m_output_27 (by decide) ?_
    refine y_sub [] rfl ?_
    exact b_m_output_31 cx (σ4 84 (p1.toNatClampNeg)) σ4 h
theorem c_m_output {l : Launch} (hfl : l.flags = flags0) (Δ : Ly) (p1 : Int32) (σ : Sg) (Q : Int32 → Sg → Prop) (h : w_m_output p1 σ Q) : Ct l Δ mi_m_output [.ref (Δ.1 58), .int p1] σ (qI Q) noE :=
  Ct.of hfl (by show plainFor ⟨"GuardedMovesModel", "output", "(I)I"⟩ = true; decide +kernel) rfl (le_b rfl) (fun G hl cx => b_m_output cx p1 σ h)
def mi_m_countConverted : Mi := ("GuardedMovesModel", prog_6_method_63_code, 3, [], (some .int), 0, 0, 0, 0, ⟨"GuardedMovesModel", "countConverted", "()I"⟩)
theorem d_m_countConverted_0 : decode prog_6_method_63_code 0 = .ok (.iconst 0, 1) := by decide +kernel
theorem d_m_countConverted_1 : decode prog_6_method_63_code 1 = .ok (.istore_n 1, 1) := by decide +kernel
theorem d_m_countConverted_2 : decode prog_6_method_63_code 2 = .ok (.iconst 0, 1) := by decide +kernel
theorem d_m_countConverted_3 : decode prog_6_method_63_code 3 = .ok (.istore_n 2, 1) := by decide +kernel
theorem d_m_countConverted_4 : decode prog_6_method_63_code 4 = .ok (.iload_n 2, 1) := by decide +kernel
theorem d_m_countConverted_5 : decode prog_6_method_63_code 5 = .ok (.aload_n 0, 1) := by decide +kernel
theorem d_m_countConverted_6 : decode prog_6_method_63_code 6 = .ok (.getfield 192, 3) := by decide +kernel
theorem d_m_countConverted_9 : decode prog_6_method_63_code 9 = .ok (.if_icmp .ge 26, 3) := by decide +kernel
theorem d_m_countConverted_12 : decode prog_6_method_63_code 12 = .ok (.iload_n 1, 1) := by decide +kernel
theorem d_m_countConverted_13 : decode prog_6_method_63_code 13 = .ok (.aload_n 0, 1) := by decide +kernel
theorem d_m_countConverted_14 : decode prog_6_method_63_code 14 = .ok (.getfield 51, 3) := by decide +kernel
theorem d_m_countConverted_17 : decode prog_6_method_63_code 17 = .ok (.iload_n 2, 1) := by decide +kernel
theorem d_m_countConverted_18 : decode prog_6_method_63_code 18 = .ok (.baload, 1) := by decide +kernel
theorem d_m_countConverted_19 : decode prog_6_method_63_code 19 = .ok (.ifCond .eq 7, 3) := by decide +kernel
theorem d_m_countConverted_22 : decode prog_6_method_63_code 22 = .ok (.iconst 1, 1) := by decide +kernel
theorem d_m_countConverted_23 : decode prog_6_method_63_code 23 = .ok (.goto 4, 3) := by decide +kernel
theorem d_m_countConverted_26 : decode prog_6_method_63_code 26 = .ok (.iconst 0, 1) := by decide +kernel
theorem d_m_countConverted_27 : decode prog_6_method_63_code 27 = .ok (.iadd, 1) := by decide +kernel
theorem d_m_countConverted_28 : decode prog_6_method_63_code 28 = .ok (.istore_n 1, 1) := by decide +kernel
theorem d_m_countConverted_29 : decode prog_6_method_63_code 29 = .ok (.iinc 2 1, 3) := by decide +kernel
theorem d_m_countConverted_32 : decode prog_6_method_63_code 32 = .ok (.goto (-28), 3) := by decide +kernel
theorem d_m_countConverted_35 : decode prog_6_method_63_code 35 = .ok (.iload_n 1, 1) := by decide +kernel
theorem d_m_countConverted_36 : decode prog_6_method_63_code 36 = .ok (.ireturn, 1) := by decide +kernel
theorem kc_m_countConverted : Kw (m_w (mi_m_countConverted )) := ⟨(in_t5 (List.mem_of_getElem? (i := 181) rfl)), rfl⟩
theorem mv_m_countConverted : MV (mi_m_countConverted ) "GuardedMovesModel" 0 := ⟨kw_1140, ks_85, kc_m_countConverted , kw_7, ⟨⟨(by show ("GuardedMovesModel" : String) ≠ "java/lang/invoke/MethodHandle"; decide), (by show ("GuardedMovesModel" : String) ≠ "java/lang/invoke/VarHandle"; decide)⟩, (by show (parseMethodDescriptor "()I").map (fun d => d.parameters.length) = some 0; decide +kernel)⟩⟩
def w_m_countConverted_27 (K4 : Int32 → Int32 → Sg → Prop) (Q : Int32 → Sg → Prop) (v2 : Int32) (s0 : Int32) (s1 : Int32) (σ : Sg) : Prop := ∀ x1 : Int32, x1 = s1 + s0 → (∀ x2 : Int32, x2 = v2 + 1 → (K4 x1 x2 σ))
theorem b_m_countConverted_27 {Δ : Ly} {G : Gm} {K4 : Int32 → Int32 → Sg → Prop} {Q : Int32 → Sg → Prop} (cx : Cx Δ G mi_m_countConverted) (hK4 : ∀ (v1 : Int32) (v2 : Int32) (σ : Sg), K4 v1 v2 σ → Y Δ G mi_m_countConverted (qI Q) noE 0 0 σ 4 [(0, .ref (Δ.1 58)), (1, .int v1), (2, .int v2)] []) : ∀ (v2 : Int32) (s0 : Int32) (s1 : Int32) (σ : Sg), w_m_countConverted_27 K4 Q v2 s0 s1 σ → Y Δ G mi_m_countConverted (qI Q) noE 0 0 σ 27 [(0, .ref (Δ.1 58)), (2, .int v2)] [.int s0, .int s1] := by
  intro v2 s0 s1 σ h
  unfold w_m_countConverted_27 at h
  refine y_iadd cx (pc := 27) d_m_countConverted_27 ?_
  refine y_topi (fun x1 ex1 => ?_)
  replace h := h x1 ex1
  refine y_istore_n (lv' := [(1, .int x1), (0, .ref (Δ.1 58)), (2, .int v2)]) cx (pc := 28) d_m_countConverted_28 rfl (le_b rfl) rfl ?_
  obtain ⟨x2, ex2⟩ : ∃ y : Int32, y = v2 + 1 := ⟨_, rfl⟩
  replace h := h x2 ex2
  refine y_iinc (v := x2) (lv' := [(2, .int x2), (1, .int x1), (0, .ref (Δ.1 58))]) cx (pc := 29) d_m_countConverted_29 (j := 2) rfl (by rw [ex2]; rfl) (le_b rfl) rfl ?_
  refine y_goto cx (pc := 32) (tgt := 4) d_m_countConverted_32 (by decide) ?_
  refine y_sub [2, 1, 0] rfl ?_
  exact hK4 x1 x2 σ h
def w_m_countConverted_4 (Q : Int32 → Sg → Prop) : Nat → Int32 → Int32 → Sg → Prop
  | 0, _, _, _ => False
  | n + 1, v1, v2, σ => ((σ 58 9) ≤ v2 → (Q v1 σ)) ∧ (¬ (σ 58 9) ≤ v2 → (vp_in v2 60 ∧ (((σ 71 (v2.toNatClampNeg)) = 0 → (w_m_countConverted_27 (w_m_countConverted_4 Q n) Q v2 0 v1 σ)) ∧ (¬ (σ 71 (v2.toNatClampNeg)) = 0 → (w_m_countConverted_27 (w_m_countConverted_4 Q n) Q v2 1 v1 σ)))))
theorem b_m_countConverted_4 {Δ : Ly} {G : Gm} {Q : Int32 → Sg → Prop} (cx : Cx Δ G mi_m_countConverted) : ∀ (n : Nat) (v1 : Int32) (v2 : Int32) (σ : Sg), w_m_countConverted_4 Q n v1 v2 σ → Y Δ G mi_m_countConverted (qI Q) noE 0 0 σ 4 [(0, .ref (Δ.1 58)), (1, .int v1), (2, .int v2)] [] := by
  intro n
  induction n with
  | zero => intro v1 v2 σ h; exact h.elim
  | succ n ih =>
    intro v1 v2 σ h
    unfold w_m_countConverted_4 at h
    refine y_iload_n cx (pc := 4) d_m_countConverted_4 rfl 2 rfl ?_
    refine y_aload_n cx (pc := 5) d_m_countConverted_5 rfl 0 rfl ?_
    refine y_get cx (pc := 6) (j := 9) (v := .int (σ 58 9)) (le_b rfl) ck_Md kw_757 (le_b rfl) (gf_58_9 Δ _) d_m_countConverted_6 ?_
    refine y_icmp_ge cx (pc := 9) (tgt := 35) d_m_countConverted_9 (by decide) (fun hc => ?_) (fun hc => ?_)
    · replace h := h.1 hc
      refine y_iload_n cx (pc := 35) d_m_countConverted_35 rfl 1 rfl ?_
      exact y_iret cx (pc := 36) rfl d_m_countConverted_36 (le_b rfl) (le_b rfl) h
    · replace h := h.2 hc
      refine y_iload_n cx (pc := 12) d_m_countConverted_12 rfl 1 rfl ?_
      refine y_aload_n cx (pc := 13) d_m_countConverted_13 rfl 0 rfl ?_
      refine y_get cx (pc := 14) (j := 23) (v := .ref (Δ.1 71)) (le_b rfl) ck_Md kw_771 (le_b rfl) (gf_58_23 Δ _) d_m_countConverted_14 ?_
      refine y_iload_n cx (pc := 17) d_m_countConverted_17 rfl 2 rfl ?_
      obtain ⟨h0, h⟩ := h
      refine y_zald cx (pc := 18) ⟨(le_b rfl), fun _ => rfl⟩ h0 d_m_countConverted_18 ?_
      refine y_if_eq cx (pc := 19) (tgt := 26) d_m_countConverted_19 (by decide) (fun hc => ?_) (fun hc => ?_)
      · replace h := h.1 hc
        refine y_iconst cx (pc := 26) ic_0 d_m_countConverted_26 ?_
        refine y_sub [0, 2] rfl ?_
        exact b_m_countConverted_27 cx ih v2 0 v1 σ h
      · replace h := h.2 hc
        refine y_iconst cx (pc := 22) ic_1 d_m_countConverted_22 ?_
        refine y_goto cx (pc := 23) (tgt := 27) d_m_countConverted_23 (by decide) ?_
        refine y_sub [0, 2] rfl ?_
        exact b_m_countConverted_27 cx ih v2 1 v1 σ h
def w_m_countConverted (σ : Sg) (Q : Int32 → Sg → Prop) : Prop := ∃ q4, w_m_countConverted_4 Q q4 0 0 σ
theorem b_m_countConverted {Δ : Ly} {G : Gm} {Q : Int32 → Sg → Prop} (cx : Cx Δ G mi_m_countConverted) (σ : Sg) (h : w_m_countConverted σ Q) : Y Δ G mi_m_countConverted (qI Q) noE 0 0 σ 0 [(0, .ref (Δ.1 58))] [] := by
  unfold w_m_countConverted at h
  refine y_iconst cx (pc := 0) ic_0 d_m_countConverted_0 ?_
  refine y_istore_n (lv' := [(1, .int 0), (0, .ref (Δ.1 58))]) cx (pc := 1) d_m_countConverted_1 rfl (le_b rfl) rfl ?_
  refine y_iconst cx (pc := 2) ic_0 d_m_countConverted_2 ?_
  refine y_istore_n (lv' := [(2, .int 0), (1, .int 0), (0, .ref (Δ.1 58))]) cx (pc := 3) d_m_countConverted_3 rfl (le_b rfl) rfl ?_
  refine y_sub [2, 1, 0] rfl ?_
  obtain ⟨n, h⟩ := h
  exact b_m_countConverted_4 cx n 0 0 σ h
theorem c_m_countConverted {l : Launch} (hfl : l.flags = flags0) (Δ : Ly) (σ : Sg) (Q : Int32 → Sg → Prop) (h : w_m_countConverted σ Q) : Ct l Δ mi_m_countConverted [.ref (Δ.1 58)] σ (qI Q) noE :=
  Ct.of hfl (by show plainFor ⟨"GuardedMovesModel", "countConverted", "()I"⟩ = true; decide +kernel) rfl (le_b rfl) (fun G hl cx => b_m_countConverted cx σ h)
def mi_m_countJumps : Mi := ("GuardedMovesModel", prog_6_method_62_code, 3, [], (some .int), 0, 0, 0, 0, ⟨"GuardedMovesModel", "countJumps", "()I"⟩)
theorem d_m_countJumps_0 : decode prog_6_method_62_code 0 = .ok (.iconst 0, 1) := by decide +kernel
theorem d_m_countJumps_1 : decode prog_6_method_62_code 1 = .ok (.istore_n 1, 1) := by decide +kernel
theorem d_m_countJumps_2 : decode prog_6_method_62_code 2 = .ok (.iconst 0, 1) := by decide +kernel
theorem d_m_countJumps_3 : decode prog_6_method_62_code 3 = .ok (.istore_n 2, 1) := by decide +kernel
theorem d_m_countJumps_4 : decode prog_6_method_62_code 4 = .ok (.iload_n 2, 1) := by decide +kernel
theorem d_m_countJumps_5 : decode prog_6_method_62_code 5 = .ok (.aload_n 0, 1) := by decide +kernel
theorem d_m_countJumps_6 : decode prog_6_method_62_code 6 = .ok (.getfield 199, 3) := by decide +kernel
theorem d_m_countJumps_9 : decode prog_6_method_62_code 9 = .ok (.if_icmp .ge 45, 3) := by decide +kernel
theorem d_m_countJumps_12 : decode prog_6_method_62_code 12 = .ok (.iload_n 1, 1) := by decide +kernel
theorem d_m_countJumps_13 : decode prog_6_method_62_code 13 = .ok (.aload_n 0, 1) := by decide +kernel
theorem d_m_countJumps_14 : decode prog_6_method_62_code 14 = .ok (.getfield 44, 3) := by decide +kernel
theorem d_m_countJumps_17 : decode prog_6_method_62_code 17 = .ok (.bipush 6, 2) := by decide +kernel
theorem d_m_countJumps_19 : decode prog_6_method_62_code 19 = .ok (.iload_n 2, 1) := by decide +kernel
theorem d_m_countJumps_20 : decode prog_6_method_62_code 20 = .ok (.imul, 1) := by decide +kernel
theorem d_m_countJumps_21 : decode prog_6_method_62_code 21 = .ok (.iaload, 1) := by decide +kernel
theorem d_m_countJumps_22 : decode prog_6_method_62_code 22 = .ok (.bipush 16, 2) := by decide +kernel
theorem d_m_countJumps_24 : decode prog_6_method_62_code 24 = .ok (.if_icmp .eq 17, 3) := by decide +kernel
theorem d_m_countJumps_27 : decode prog_6_method_62_code 27 = .ok (.aload_n 0, 1) := by decide +kernel
theorem d_m_countJumps_28 : decode prog_6_method_62_code 28 = .ok (.getfield 44, 3) := by decide +kernel
theorem d_m_countJumps_31 : decode prog_6_method_62_code 31 = .ok (.bipush 6, 2) := by decide +kernel
theorem d_m_countJumps_33 : decode prog_6_method_62_code 33 = .ok (.iload_n 2, 1) := by decide +kernel
theorem d_m_countJumps_34 : decode prog_6_method_62_code 34 = .ok (.imul, 1) := by decide +kernel
theorem d_m_countJumps_35 : decode prog_6_method_62_code 35 = .ok (.iaload, 1) := by decide +kernel
theorem d_m_countJumps_36 : decode prog_6_method_62_code 36 = .ok (.bipush 17, 2) := by decide +kernel
theorem d_m_countJumps_38 : decode prog_6_method_62_code 38 = .ok (.if_icmp .ne 7, 3) := by decide +kernel
theorem d_m_countJumps_41 : decode prog_6_method_62_code 41 = .ok (.iconst 1, 1) := by decide +kernel
theorem d_m_countJumps_42 : decode prog_6_method_62_code 42 = .ok (.goto 4, 3) := by decide +kernel
theorem d_m_countJumps_45 : decode prog_6_method_62_code 45 = .ok (.iconst 0, 1) := by decide +kernel
theorem d_m_countJumps_46 : decode prog_6_method_62_code 46 = .ok (.iadd, 1) := by decide +kernel
theorem d_m_countJumps_47 : decode prog_6_method_62_code 47 = .ok (.istore_n 1, 1) := by decide +kernel
theorem d_m_countJumps_48 : decode prog_6_method_62_code 48 = .ok (.iinc 2 1, 3) := by decide +kernel
theorem d_m_countJumps_51 : decode prog_6_method_62_code 51 = .ok (.goto (-47), 3) := by decide +kernel
theorem d_m_countJumps_54 : decode prog_6_method_62_code 54 = .ok (.iload_n 1, 1) := by decide +kernel
theorem d_m_countJumps_55 : decode prog_6_method_62_code 55 = .ok (.ireturn, 1) := by decide +kernel
theorem kc_m_countJumps : Kw (m_w (mi_m_countJumps )) := ⟨(in_t5 (List.mem_of_getElem? (i := 177) rfl)), rfl⟩
theorem mv_m_countJumps : MV (mi_m_countJumps ) "GuardedMovesModel" 0 := ⟨kw_1136, ks_84, kc_m_countJumps , kw_7, ⟨⟨(by show ("GuardedMovesModel" : String) ≠ "java/lang/invoke/MethodHandle"; decide), (by show ("GuardedMovesModel" : String) ≠ "java/lang/invoke/VarHandle"; decide)⟩, (by show (parseMethodDescriptor "()I").map (fun d => d.parameters.length) = some 0; decide +kernel)⟩⟩
def w_m_countJumps_46 (K4 : Int32 → Int32 → Sg → Prop) (Q : Int32 → Sg → Prop) (v2 : Int32) (s0 : Int32) (s1 : Int32) (σ : Sg) : Prop := ∀ x1 : Int32, x1 = s1 + s0 → (∀ x2 : Int32, x2 = v2 + 1 → (K4 x1 x2 σ))
theorem b_m_countJumps_46 {Δ : Ly} {G : Gm} {K4 : Int32 → Int32 → Sg → Prop} {Q : Int32 → Sg → Prop} (cx : Cx Δ G mi_m_countJumps) (hK4 : ∀ (v1 : Int32) (v2 : Int32) (σ : Sg), K4 v1 v2 σ → Y Δ G mi_m_countJumps (qI Q) noE 0 0 σ 4 [(0, .ref (Δ.1 58)), (1, .int v1), (2, .int v2)] []) : ∀ (v2 : Int32) (s0 : Int32) (s1 : Int32) (σ : Sg), w_m_countJumps_46 K4 Q v2 s0 s1 σ → Y Δ G mi_m_countJumps (qI Q) noE 0 0 σ 46 [(0, .ref (Δ.1 58)), (2, .int v2)] [.int s0, .int s1] := by
  intro v2 s0 s1 σ h
  unfold w_m_countJumps_46 at h
  refine y_iadd cx (pc := 46) d_m_countJumps_46 ?_
  refine y_topi (fun x1 ex1 => ?_)
  replace h := h x1 ex1
  refine y_istore_n (lv' := [(1, .int x1), (0, .ref (Δ.1 58)), (2, .int v2)]) cx (pc := 47) d_m_countJumps_47 rfl (le_b rfl) rfl ?_
  obtain ⟨x2, ex2⟩ : ∃ y : Int32, y = v2 + 1 := ⟨_, rfl⟩
  replace h := h x2 ex2
  refine y_iinc (v := x2) (lv' := [(2, .int x2), (1, .int x1), (0, .ref (Δ.1 58))]) cx (pc := 48) d_m_countJumps_48 (j := 2) rfl (by rw [ex2]; rfl) (le_b rfl) rfl ?_
  refine y_goto cx (pc := 51) (tgt := 4) d_m_countJumps_51 (by decide) ?_
  refine y_sub [2, 1, 0] rfl ?_
  exact hK4 x1 x2 σ h
def w_m_countJumps_41 (K4 : Int32 → Int32 → Sg → Prop) (Q : Int32 → Sg → Prop) (v2 : Int32) (s0 : Int32) (σ : Sg) : Prop := w_m_countJumps_46 K4 Q v2 1 s0 σ
theorem b_m_countJumps_41 {Δ : Ly} {G : Gm} {K4 : Int32 → Int32 → Sg → Prop} {Q : Int32 → Sg → Prop} (cx : Cx Δ G mi_m_countJumps) (hK4 : ∀ (v1 : Int32) (v2 : Int32) (σ : Sg), K4 v1 v2 σ → Y Δ G mi_m_countJumps (qI Q) noE 0 0 σ 4 [(0, .ref (Δ.1 58)), (1, .int v1), (2, .int v2)] []) : ∀ (v2 : Int32) (s0 : Int32) (σ : Sg), w_m_countJumps_41 K4 Q v2 s0 σ → Y Δ G mi_m_countJumps (qI Q) noE 0 0 σ 41 [(0, .ref (Δ.1 58)), (2, .int v2)] [.int s0] := by
  intro v2 s0 σ h
  unfold w_m_countJumps_41 at h
  refine y_iconst cx (pc := 41) ic_1 d_m_countJumps_41 ?_
  refine y_goto cx (pc := 42) (tgt := 46) d_m_countJumps_42 (by decide) ?_
  exact b_m_countJumps_46 cx hK4 v2 1 s0 σ h
def w_m_countJumps_4 (Q : Int32 → Sg → Prop) : Nat → Int32 → Int32 → Sg → Prop
  | 0, _, _, _ => False
  | n + 1, v1, v2, σ => ((σ 58 20) ≤ v2 → (Q v1 σ)) ∧ (¬ (σ 58 20) ≤ v2 → (vp_in (6 * v2) 24000 ∧ (((σ 70 ((6 * v2).toNatClampNeg)) = 16 → (w_m_countJumps_41 (w_m_countJumps_4 Q n) Q v2 v1 σ)) ∧ (¬ (σ 70 ((6 * v2).toNatClampNeg)) = 16 → (vp_in (6 * v2) 24000 ∧ ((¬ (σ 70 ((6 * v2).toNatClampNeg)) = 17 → (w_m_countJumps_46 (w_m_countJumps_4 Q n) Q v2 0 v1 σ)) ∧ ((σ 70 ((6 * v2).toNatClampNeg)) = 17 → (w_m_countJumps_41 (w_m_countJumps_4 Q n) Q v2 v1 σ))))))))
theorem b_m_countJumps_4 {Δ : Ly} {G : Gm} {Q : Int32 → Sg → Prop} (cx : Cx Δ G mi_m_countJumps) : ∀ (n : Nat) (v1 : Int32) (v2 : Int32) (σ : Sg), w_m_countJumps_4 Q n v1 v2 σ → Y Δ G mi_m_countJumps (qI Q) noE 0 0 σ 4 [(0, .ref (Δ.1 58)), (1, .int v1), (2, .int v2)] [] := by
  intro n
  induction n with
  | zero => intro v1 v2 σ h; exact h.elim
  | succ n ih =>
    intro v1 v2 σ h
    unfold w_m_countJumps_4 at h
    refine y_iload_n cx (pc := 4) d_m_countJumps_4 rfl 2 rfl ?_
    refine y_aload_n cx (pc := 5) d_m_countJumps_5 rfl 0 rfl ?_
    refine y_get cx (pc := 6) (j := 20) (v := .int (σ 58 20)) (le_b rfl) ck_Md kw_768 (le_b rfl) (gf_58_20 Δ _) d_m_countJumps_6 ?_
    refine y_icmp_ge cx (pc := 9) (tgt := 54) d_m_countJumps_9 (by decide) (fun hc => ?_) (fun hc => ?_)
    · replace h := h.1 hc
      refine y_iload_n cx (pc := 54) d_m_countJumps_54 rfl 1 rfl ?_
      exact y_iret cx (pc := 55) rfl d_m_countJumps_55 (le_b rfl) (le_b rfl) h
    · replace h := h.2 hc
      refine y_iload_n cx (pc := 12) d_m_countJumps_12 rfl 1 rfl ?_
      refine y_aload_n cx (pc := 13) d_m_countJumps_13 rfl 0 rfl ?_
      refine y_get cx (pc := 14) (j := 19) (v := .ref (Δ.1 70)) (le_b rfl) ck_Md kw_767 (le_b rfl) (gf_58_19 Δ _) d_m_countJumps_14 ?_
      refine y_bipush cx (pc := 17) bp_6 d_m_countJumps_17 ?_
      refine y_iload_n cx (pc := 19) d_m_countJumps_19 rfl 2 rfl ?_
      refine y_imul cx (pc := 20) d_m_countJumps_20 ?_
      obtain ⟨h0, h⟩ := h
      refine y_iald cx (pc := 21) ⟨(le_b rfl), fun _ => rfl⟩ h0 d_m_countJumps_21 ?_
      refine y_bipush cx (pc := 22) bp_16 d_m_countJumps_22 ?_
      refine y_icmp_eq cx (pc := 24) (tgt := 41) d_m_countJumps_24 (by decide) (fun hc => ?_) (fun hc => ?_)
      · replace h := h.1 hc
        refine y_sub [0, 2] rfl ?_
        exact b_m_countJumps_41 cx ih v2 v1 σ h
      · replace h := h.2 hc
        refine y_aload_n cx (pc := 27) d_m_countJumps_27 rfl 0 rfl ?_
        refine y_get cx (pc := 28) (j := 19) (v := .ref (Δ.1 70)) (le_b rfl) ck_Md kw_767 (le_b rfl) (gf_58_19 Δ _) d_m_countJumps_28 ?_
        refine y_bipush cx (pc := 31) bp_6 d_m_countJumps_31 ?_
        refine y_iload_n cx (pc := 33) d_m_countJumps_33 rfl 2 rfl ?_
        refine y_imul cx (pc := 34) d_m_countJumps_34 ?_
        obtain ⟨h0, h⟩ := h
        refine y_iald cx (pc := 35) ⟨(le_b rfl), fun _ => rfl⟩ h0 d_m_countJumps_35 ?_
        refine y_bipush cx (pc := 36) bp_17 d_m_countJumps_36 ?_
        refine y_icmp_ne cx (pc := 38) (tgt := 45) d_m_countJumps_38 (by decide) (fun hc => ?_) (fun hc => ?_)
        · replace h := h.1 hc
          refine y_iconst cx (pc := 45) ic_0 d_m_countJumps_45 ?_
          refine y_sub [0, 2] rfl ?_
          exact b_m_countJumps_46 cx ih v2 0 v1 σ h
        · replace h := h.2 hc
          refine y_sub [0, 2] rfl ?_
          exact b_m_countJumps_41 cx ih v2 v1 σ h
def w_m_countJumps (σ : Sg) (Q : Int32 → Sg → Prop) : Prop := ∃ q4, w_m_countJumps_4 Q q4 0 0 σ
theorem b_m_countJumps {Δ : Ly} {G : Gm} {Q : Int32 → Sg → Prop} (cx : Cx Δ G mi_m_countJumps) (σ : Sg) (h : w_m_countJumps σ Q) : Y Δ G mi_m_countJumps (qI Q) noE 0 0 σ 0 [(0, .ref (Δ.1 58))] [] := by
  unfold w_m_countJumps at h
  refine y_iconst cx (pc := 0) ic_0 d_m_countJumps_0 ?_
  refine y_istore_n (lv' := [(1, .int 0), (0, .ref (Δ.1 58))]) cx (pc := 1) d_m_countJumps_1 rfl (le_b rfl) rfl ?_
  refine y_iconst cx (pc := 2) ic_0 d_m_countJumps_2 ?_
  refine y_istore_n (lv' := [(2, .int 0), (1, .int 0), (0, .ref (Δ.1 58))]) cx (pc := 3) d_m_countJumps_3 rfl (le_b rfl) rfl ?_
  refine y_sub [2, 1, 0] rfl ?_
  obtain ⟨n, h⟩ := h
  exact b_m_countJumps_4 cx n 0 0 σ h
theorem c_m_countJumps {l : Launch} (hfl : l.flags = flags0) (Δ : Ly) (σ : Sg) (Q : Int32 → Sg → Prop) (h : w_m_countJumps σ Q) : Ct l Δ mi_m_countJumps [.ref (Δ.1 58)] σ (qI Q) noE :=
  Ct.of hfl (by show plainFor ⟨"GuardedMovesModel", "countJumps", "()I"⟩ = true; decide +kernel) rfl (le_b rfl) (fun G hl cx => b_m_countJumps cx σ h)
def mi_m_count : Mi := ("GuardedMovesModel", prog_6_method_64_code, 2, [], (some .int), 1, 29, 0, 0, ⟨"GuardedMovesModel", "count", "(I)I"⟩)
theorem d_m_count_0 : decode prog_6_method_64_code 0 = .ok (.aload_n 0, 1) := by decide +kernel
theorem d_m_count_1 : decode prog_6_method_64_code 1 = .ok (.iload_n 1, 1) := by decide +kernel
theorem d_m_count_2 : decode prog_6_method_64_code 2 = .ok (.i2l, 1) := by decide +kernel
theorem d_m_count_3 : decode prog_6_method_64_code 3 = .ok (.lconst 0, 1) := by decide +kernel
theorem d_m_count_4 : decode prog_6_method_64_code 4 = .ok (.ldc2_w 117, 3) := by decide +kernel
theorem d_m_count_7 : decode prog_6_method_64_code 7 = .ok (.invokestatic 107, 3) := by decide +kernel
theorem d_m_count_10 : decode prog_6_method_64_code 10 = .ok (.iconst 1, 1) := by decide +kernel
theorem d_m_count_11 : decode prog_6_method_64_code 11 = .ok (.invokevirtual 111, 3) := by decide +kernel
theorem d_m_count_14 : decode prog_6_method_64_code 14 = .ok (.ifCond .ne 5, 3) := by decide +kernel
theorem d_m_count_17 : decode prog_6_method_64_code 17 = .ok (.iconst 0, 1) := by decide +kernel
theorem d_m_count_18 : decode prog_6_method_64_code 18 = .ok (.ireturn, 1) := by decide +kernel
theorem d_m_count_19 : decode prog_6_method_64_code 19 = .ok (.iload_n 1, 1) := by decide +kernel
theorem d_m_count_20 : decode prog_6_method_64_code 20 = .ok (.tableswitch 88 0 7 #[48, 53, 58, 63, 68, 73, 78, 83], 48) := by decide +kernel
theorem d_m_count_68 : decode prog_6_method_64_code 68 = .ok (.aload_n 0, 1) := by decide +kernel
theorem d_m_count_69 : decode prog_6_method_64_code 69 = .ok (.getfield 192, 3) := by decide +kernel
theorem d_m_count_72 : decode prog_6_method_64_code 72 = .ok (.ireturn, 1) := by decide +kernel
theorem d_m_count_73 : decode prog_6_method_64_code 73 = .ok (.aload_n 0, 1) := by decide +kernel
theorem d_m_count_74 : decode prog_6_method_64_code 74 = .ok (.getfield 199, 3) := by decide +kernel
theorem d_m_count_77 : decode prog_6_method_64_code 77 = .ok (.ireturn, 1) := by decide +kernel
theorem d_m_count_78 : decode prog_6_method_64_code 78 = .ok (.aload_n 0, 1) := by decide +kernel
theorem d_m_count_79 : decode prog_6_method_64_code 79 = .ok (.getfield 47, 3) := by decide +kernel
theorem d_m_count_82 : decode prog_6_method_64_code 82 = .ok (.ireturn, 1) := by decide +kernel
theorem d_m_count_83 : decode prog_6_method_64_code 83 = .ok (.aload_n 0, 1) := by decide +kernel
theorem d_m_count_84 : decode prog_6_method_64_code 84 = .ok (.invokevirtual 319, 3) := by decide +kernel
theorem d_m_count_87 : decode prog_6_method_64_code 87 = .ok (.ireturn, 1) := by decide +kernel
theorem d_m_count_88 : decode prog_6_method_64_code 88 = .ok (.aload_n 0, 1) := by decide +kernel
theorem d_m_count_89 : decode prog_6_method_64_code 89 = .ok (.invokevirtual 322, 3) := by decide +kernel
theorem d_m_count_92 : decode prog_6_method_64_code 92 = .ok (.ireturn, 1) := by decide +kernel
theorem d_m_count_93 : decode prog_6_method_64_code 93 = .ok (.aload_n 0, 1) := by decide +kernel
theorem d_m_count_94 : decode prog_6_method_64_code 94 = .ok (.getfield 282, 3) := by decide +kernel
theorem d_m_count_97 : decode prog_6_method_64_code 97 = .ok (.ireturn, 1) := by decide +kernel
theorem d_m_count_98 : decode prog_6_method_64_code 98 = .ok (.aload_n 0, 1) := by decide +kernel
theorem d_m_count_99 : decode prog_6_method_64_code 99 = .ok (.getfield 119, 3) := by decide +kernel
theorem d_m_count_102 : decode prog_6_method_64_code 102 = .ok (.ireturn, 1) := by decide +kernel
theorem d_m_count_103 : decode prog_6_method_64_code 103 = .ok (.aload_n 0, 1) := by decide +kernel
theorem d_m_count_104 : decode prog_6_method_64_code 104 = .ok (.getfield 93, 3) := by decide +kernel
theorem d_m_count_107 : decode prog_6_method_64_code 107 = .ok (.ireturn, 1) := by decide +kernel
theorem d_m_count_108 : decode prog_6_method_64_code 108 = .ok (.aload_n 0, 1) := by decide +kernel
theorem d_m_count_109 : decode prog_6_method_64_code 109 = .ok (.getfield 285, 3) := by decide +kernel
theorem d_m_count_112 : decode prog_6_method_64_code 112 = .ok (.ireturn, 1) := by decide +kernel
theorem kc_m_count : Kw (m_w (mi_m_count )) := ⟨(in_t5 (List.mem_of_getElem? (i := 173) rfl)), rfl⟩
theorem mv_m_count : MV (mi_m_count ) "GuardedMovesModel" 1 := ⟨kw_1131, kw_1132, kc_m_count , kw_7, ⟨⟨(by show ("GuardedMovesModel" : String) ≠ "java/lang/invoke/MethodHandle"; decide), (by show ("GuardedMovesModel" : String) ≠ "java/lang/invoke/VarHandle"; decide)⟩, (by show (parseMethodDescriptor "(I)I").map (fun d => d.parameters.length) = some 1; decide +kernel)⟩⟩
def w_m_count (p1 : Int32) (σ : Sg) (Q : Int32 → Sg → Prop) : Prop := w_m_isIn (p1.toInt64) 0 8 σ (fun x1 σ2 => w_m_may x1 1 σ2 (fun x3 σ4 => (¬ x3 = 0 → ((p1 = 0 → (Q (σ4 58 9) σ4)) ∧ (¬ p1 = 0 → ((p1 = 1 → (Q (σ4 58 20) σ4)) ∧ (¬ p1 = 1 → ((p1 = 2 → (Q (σ4 58 21) σ4)) ∧ (¬ p1 = 2 → ((p1 = 3 → (w_m_countJumps σ4 (fun x5 σ6 => Q x5 σ6))) ∧ (¬ p1 = 3 → ((p1 = 4 → (w_m_countConverted σ4 (fun x7 σ8 => Q x7 σ8))) ∧ (¬ p1 = 4 → ((p1 = 5 → (Q (σ4 58 39) σ4)) ∧ (¬ p1 = 5 → ((p1 = 6 → (Q (σ4 58 4) σ4)) ∧ (¬ p1 = 6 → ((p1 = 7 → (Q (σ4 58 40) σ4)) ∧ (¬ p1 = 7 → (Q (σ4 58 41) σ4)))))))))))))))))) ∧ (x3 = 0 → (Q 0 σ4))))
theorem b_m_count {Δ : Ly} {G : Gm} {Q : Int32 → Sg → Prop} (cx : Cx Δ G mi_m_count) (p1 : Int32) (σ : Sg) (h : w_m_count p1 σ Q) : Y Δ G mi_m_count (qI Q) noE 0 0 σ 0 [(0, .ref (Δ.1 58)), (1, .int p1)] [] := by
  unfold w_m_count at h
  refine y_aload_n cx (pc := 0) d_m_count_0 rfl 0 rfl ?_
  refine y_iload_n cx (pc := 1) d_m_count_1 rfl 1 rfl ?_
  refine y_i2l cx (pc := 2) d_m_count_2 ?_
  refine y_lconst cx (pc := 3) (v := 0) lc_0 d_m_count_3 ?_
  refine y_ldc2 cx (pc := 4) kw_909 d_m_count_4 ?_
  refine y_sI cx (pc := 7) (st := [.ref (Δ.1 58)]) [.long (p1.toInt64), .long 0, .long 8] (c_m_isIn cx.fl Δ (p1.toInt64) 0 8 _ _ h) mv_m_isIn kw_893 rfl (le_b rfl) (le_b rfl) (le_b rfl) (le_b rfl) (le_b rfl) d_m_count_7 (fun x1 σ2 h => ?_) (fun x σ2 h => yt_no h)
  refine y_iconst cx (pc := 10) ic_1 d_m_count_10 ?_
  refine y_vI cx (pc := 11) (st := []) [.int x1, .int 1] (c_m_may cx.fl Δ x1 1 _ _ h) mv_m_may kw_896 (oc_58 Δ) ck_Md rfl (le_b rfl) (le_b rfl) (le_b rfl) (le_b rfl) (le_b rfl) d_m_count_11 (fun x3 σ4 h => ?_) (fun x σ4 h => yt_no h)
  refine y_if_ne cx (pc := 14) (tgt := 19) d_m_count_14 (by decide) (fun hc => ?_) (fun hc => ?_)
  · replace h := h.1 hc
    refine y_iload_n cx (pc := 19) d_m_count_19 rfl 1 rfl ?_
    by_cases hc0 : p1 = 0
    · replace h := h.1 hc0
      refine y_tIn cx (pc := 20) (tgt := 68) (c := 0) d_m_count_20 hc0 (by decide) (by decide) rfl (by decide) ?_
      refine y_aload_n cx (pc := 68) d_m_count_68 rfl 0 rfl ?_
      refine y_get cx (pc := 69) (j := 9) (v := .int (σ4 58 9)) (le_b rfl) ck_Md kw_757 (le_b rfl) (gf_58_9 Δ _) d_m_count_69 ?_
      exact y_iret cx (pc := 72) rfl d_m_count_72 (le_b rfl) (le_b rfl) h
    replace h := h.2 hc0
    by_cases hc1 : p1 = 1
    · replace h := h.1 hc1
      refine y_tIn cx (pc := 20) (tgt := 73) (c := 1) d_m_count_20 hc1 (by decide) (by decide) rfl (by decide) ?_
      refine y_aload_n cx (pc := 73) d_m_count_73 rfl 0 rfl ?_
      refine y_get cx (pc := 74) (j := 20) (v := .int (σ4 58 20)) (le_b rfl) ck_Md kw_768 (le_b rfl) (gf_58_20 Δ _) d_m_count_74 ?_
      exact y_iret cx (pc := 77) rfl d_m_count_77 (le_b rfl) (le_b rfl) h
    replace h := h.2 hc1
    by_cases hc2 : p1 = 2
    · replace h := h.1 hc2
      refine y_tIn cx (pc := 20) (tgt := 78) (c := 2) d_m_count_20 hc2 (by decide) (by decide) rfl (by decide) ?_
      refine y_aload_n cx (pc := 78) d_m_count_78 rfl 0 rfl ?_
      refine y_get cx (pc := 79) (j := 21) (v := .int (σ4 58 21)) (le_b rfl) ck_Md kw_769 (le_b rfl) (gf_58_21 Δ _) d_m_count_79 ?_
      exact y_iret cx (pc := 82) rfl d_m_count_82 (le_b rfl) (le_b rfl) h
    replace h := h.2 hc2
    by_cases hc3 : p1 = 3
    · replace h := h.1 hc3
      refine y_tIn cx (pc := 20) (tgt := 83) (c := 3) d_m_count_20 hc3 (by decide) (by decide) rfl (by decide) ?_
      refine y_aload_n cx (pc := 83) d_m_count_83 rfl 0 rfl ?_
      refine y_vI cx (pc := 84) (st := []) [] (c_m_countJumps cx.fl Δ _ _ h) mv_m_countJumps kw_1134 (oc_58 Δ) ck_Md rfl (le_b rfl) (le_b rfl) (le_b rfl) (le_b rfl) (le_b rfl) d_m_count_84 (fun x5 σ6 h => ?_) (fun x σ6 h => yt_no h)
      exact y_iret cx (pc := 87) rfl d_m_count_87 (le_b rfl) (le_b rfl) h
    replace h := h.2 hc3
    by_cases hc4 : p1 = 4
    · replace h := h.1 hc4
      refine y_tIn cx (pc := 20) (tgt := 88) (c := 4) d_m_count_20 hc4 (by decide) (by decide) rfl (by decide) ?_
      refine y_aload_n cx (pc := 88) d_m_count_88 rfl 0 rfl ?_
      refine y_vI cx (pc := 89) (st := []) [] (c_m_countConverted cx.fl Δ _ _ h) mv_m_countConverted kw_1138 (oc_58 Δ) ck_Md rfl (le_b rfl) (le_b rfl) (le_b rfl) (le_b rfl) (le_b rfl) d_m_count_89 (fun x7 σ8 h => ?_) (fun x σ8 h => yt_no h)
      exact y_iret cx (pc := 92) rfl d_m_count_92 (le_b rfl) (le_b rfl) h
    replace h := h.2 hc4
    by_cases hc5 : p1 = 5
    · replace h := h.1 hc5
      refine y_tIn cx (pc := 20) (tgt := 93) (c := 5) d_m_count_20 hc5 (by decide) (by decide) rfl (by decide) ?_
      refine y_aload_n cx (pc := 93) d_m_count_93 rfl 0 rfl ?_
      refine y_get cx (pc := 94) (j := 39) (v := .int (σ4 58 39)) (le_b rfl) ck_Md kw_787 (le_b rfl) (gf_58_39 Δ _) d_m_count_94 ?_
      exact y_iret cx (pc := 97) rfl d_m_count_97 (le_b rfl) (le_b rfl) h
    replace h := h.2 hc5
    by_cases hc6 : p1 = 6
    · replace h := h.1 hc6
      refine y_tIn cx (pc := 20) (tgt := 98) (c := 6) d_m_count_20 hc6 (by decide) (by decide) rfl (by decide) ?_
      refine y_aload_n cx (pc := 98) d_m_count_98 rfl 0 rfl ?_
      refine y_get cx (pc := 99) (j := 4) (v := .int (σ4 58 4)) (le_b rfl) ck_Md kw_752 (le_b rfl) (gf_58_4 Δ _) d_m_count_99 ?_
      exact y_iret cx (pc := 102) rfl d_m_count_102 (le_b rfl) (le_b rfl) h
    replace h := h.2 hc6
    by_cases hc7 : p1 = 7
    · replace h := h.1 hc7
      refine y_tIn cx (pc := 20) (tgt := 103) (c := 7) d_m_count_20 hc7 (by decide) (by decide) rfl (by decide) ?_
      refine y_aload_n cx (pc := 103) d_m_count_103 rfl 0 rfl ?_
      refine y_get cx (pc := 104) (j := 40) (v := .int (σ4 58 40)) (le_b rfl) ck_Md kw_788 (le_b rfl) (gf_58_40 Δ _) d_m_count_104 ?_
      exact y_iret cx (pc := 107) rfl d_m_count_107 (le_b rfl) (le_b rfl) h
    replace h := h.2 hc7
    refine y_tOut cx (pc := 20) (tgt := 108) d_m_count_20 (by have z0 := lv_neT hc0 (show (0 : Int32).toInt = 0 from rfl); have z1 := lv_neT hc1 (show (1 : Int32).toInt = 1 from rfl); have z2 := lv_neT hc2 (show (2 : Int32).toInt = 2 from rfl); have z3 := lv_neT hc3 (show (3 : Int32).toInt = 3 from rfl); have z4 := lv_neT hc4 (show (4 : Int32).toInt = 4 from rfl); have z5 := lv_neT hc5 (show (5 : Int32).toInt = 5 from rfl); have z6 := lv_neT hc6 (show (6 : Int32).toInt = 6 from rfl); have z7 := lv_neT hc7 (show (7 : Int32).toInt = 7 from rfl); omega) (by decide) ?_
    refine y_aload_n cx (pc := 108) d_m_count_108 rfl 0 rfl ?_
    refine y_get cx (pc := 109) (j := 41) (v := .int (σ4 58 41)) (le_b rfl) ck_Md kw_789 (le_b rfl) (gf_58_41 Δ _) d_m_count_109 ?_
    exact y_iret cx (pc := 112) rfl d_m_count_112 (le_b rfl) (le_b rfl) h
  · replace h := h.2 hc
    refine y_iconst cx (pc := 17) ic_0 d_m_count_17 ?_
    exact y_iret cx (pc := 18) rfl d_m_count_18 (le_b rfl) (le_b rfl) h
theorem c_m_count {l : Launch} (hfl : l.flags = flags0) (Δ : Ly) (p1 : Int32) (σ : Sg) (Q : Int32 → Sg → Prop) (h : w_m_count p1 σ Q) : Ct l Δ mi_m_count [.ref (Δ.1 58), .int p1] σ (qI Q) noE :=
  Ct.of hfl (by show plainFor ⟨"GuardedMovesModel", "count", "(I)I"⟩ = true; decide +kernel) rfl (le_b rfl) (fun G hl cx => b_m_count cx p1 σ h)
