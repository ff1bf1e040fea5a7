/-! the law: its loop -/
def mi_law : Mi := ("GuardedMovesLaw", code, 7, [], (some .boolean), 2048, 94400, 603072, 7207018, x)
theorem d_law_0 : decode code 0 = .ok (.new 8, 3) := by decide +kernel
theorem d_law_3 : decode code 3 = .ok (.dup, 1) := by decide +kernel
theorem d_law_4 : decode code 4 = .ok (.invokespecial 53, 3) := by decide +kernel
theorem d_law_7 : decode code 7 = .ok (.astore_n 1, 1) := by decide +kernel
theorem d_law_8 : decode code 8 = .ok (.new 54, 3) := by decide +kernel
theorem d_law_11 : decode code 11 = .ok (.dup, 1) := by decide +kernel
theorem d_law_12 : decode code 12 = .ok (.invokespecial 56, 3) := by decide +kernel
theorem d_law_15 : decode code 15 = .ok (.astore_n 2, 1) := by decide +kernel
theorem d_law_16 : decode code 16 = .ok (.iconst 1, 1) := by decide +kernel
theorem d_law_17 : decode code 17 = .ok (.newarray .long, 2) := by decide +kernel
theorem d_law_19 : decode code 19 = .ok (.astore_n 3, 1) := by decide +kernel
theorem d_law_20 : decode code 20 = .ok (.iconst 0, 1) := by decide +kernel
theorem d_law_21 : decode code 21 = .ok (.istore 4, 2) := by decide +kernel
theorem d_law_23 : decode code 23 = .ok (.iload 4, 2) := by decide +kernel
theorem d_law_25 : decode code 25 = .ok (.aload_n 0, 1) := by decide +kernel
theorem d_law_26 : decode code 26 = .ok (.arraylength, 1) := by decide +kernel
theorem d_law_27 : decode code 27 = .ok (.iconst 4, 1) := by decide +kernel
theorem d_law_28 : decode code 28 = .ok (.isub, 1) := by decide +kernel
theorem d_law_29 : decode code 29 = .ok (.if_icmp .gt 797, 3) := by decide +kernel
theorem d_law_32 : decode code 32 = .ok (.aload_n 0, 1) := by decide +kernel
theorem d_law_33 : decode code 33 = .ok (.iload 4, 2) := by decide +kernel
theorem d_law_35 : decode code 35 = .ok (.iaload, 1) := by decide +kernel
theorem d_law_36 : decode code 36 = .ok (.bipush 15, 2) := by decide +kernel
theorem d_law_38 : decode code 38 = .ok (.iand, 1) := by decide +kernel
theorem d_law_39 : decode code 39 = .ok (.tableswitch 781 0 14 #[73, 121, 169, 269, 282, 295, 363, 419, 432, 500, 513, 557, 613, 669, 725], 73) := by decide +kernel
theorem d_law_112 : decode code 112 = .ok (.aload_n 1, 1) := by decide +kernel
theorem d_law_113 : decode code 113 = .ok (.aload_n 0, 1) := by decide +kernel
theorem d_law_114 : decode code 114 = .ok (.iload 4, 2) := by decide +kernel
theorem d_law_116 : decode code 116 = .ok (.iconst 1, 1) := by decide +kernel
theorem d_law_117 : decode code 117 = .ok (.iadd, 1) := by decide +kernel
theorem d_law_118 : decode code 118 = .ok (.iaload, 1) := by decide +kernel
theorem d_law_119 : decode code 119 = .ok (.aload_n 0, 1) := by decide +kernel
theorem d_law_120 : decode code 120 = .ok (.iload 4, 2) := by decide +kernel
theorem d_law_122 : decode code 122 = .ok (.iconst 2, 1) := by decide +kernel
theorem d_law_123 : decode code 123 = .ok (.iadd, 1) := by decide +kernel
theorem d_law_124 : decode code 124 = .ok (.iaload, 1) := by decide +kernel
theorem d_law_125 : decode code 125 = .ok (.invokestatic 57, 3) := by decide +kernel
theorem d_law_128 : decode code 128 = .ok (.istore 5, 2) := by decide +kernel
theorem d_law_130 : decode code 130 = .ok (.aload_n 2, 1) := by decide +kernel
theorem d_law_131 : decode code 131 = .ok (.aload_n 0, 1) := by decide +kernel
theorem d_law_132 : decode code 132 = .ok (.iload 4, 2) := by decide +kernel
theorem d_law_134 : decode code 134 = .ok (.iconst 1, 1) := by decide +kernel
theorem d_law_135 : decode code 135 = .ok (.iadd, 1) := by decide +kernel
theorem d_law_136 : decode code 136 = .ok (.iaload, 1) := by decide +kernel
theorem d_law_137 : decode code 137 = .ok (.aload_n 0, 1) := by decide +kernel
theorem d_law_138 : decode code 138 = .ok (.iload 4, 2) := by decide +kernel
theorem d_law_140 : decode code 140 = .ok (.iconst 2, 1) := by decide +kernel
theorem d_law_141 : decode code 141 = .ok (.iadd, 1) := by decide +kernel
theorem d_law_142 : decode code 142 = .ok (.iaload, 1) := by decide +kernel
theorem d_law_143 : decode code 143 = .ok (.invokevirtual 62, 3) := by decide +kernel
theorem d_law_146 : decode code 146 = .ok (.aload_n 2, 1) := by decide +kernel
theorem d_law_147 : decode code 147 = .ok (.invokevirtual 63, 3) := by decide +kernel
theorem d_law_150 : decode code 150 = .ok (.iload 5, 2) := by decide +kernel
theorem d_law_152 : decode code 152 = .ok (.if_icmp .eq 5, 3) := by decide +kernel
theorem d_law_155 : decode code 155 = .ok (.iconst 0, 1) := by decide +kernel
theorem d_law_156 : decode code 156 = .ok (.ireturn, 1) := by decide +kernel
theorem d_law_157 : decode code 157 = .ok (.goto 663, 3) := by decide +kernel
theorem d_law_160 : decode code 160 = .ok (.aload_n 1, 1) := by decide +kernel
theorem d_law_161 : decode code 161 = .ok (.aload_n 0, 1) := by decide +kernel
theorem d_law_162 : decode code 162 = .ok (.iload 4, 2) := by decide +kernel
theorem d_law_164 : decode code 164 = .ok (.iconst 1, 1) := by decide +kernel
theorem d_law_165 : decode code 165 = .ok (.iadd, 1) := by decide +kernel
theorem d_law_166 : decode code 166 = .ok (.iaload, 1) := by decide +kernel
theorem d_law_167 : decode code 167 = .ok (.aload_n 0, 1) := by decide +kernel
theorem d_law_168 : decode code 168 = .ok (.iload 4, 2) := by decide +kernel
theorem d_law_170 : decode code 170 = .ok (.iconst 2, 1) := by decide +kernel
theorem d_law_171 : decode code 171 = .ok (.iadd, 1) := by decide +kernel
theorem d_law_172 : decode code 172 = .ok (.iaload, 1) := by decide +kernel
theorem d_law_173 : decode code 173 = .ok (.invokestatic 66, 3) := by decide +kernel
theorem d_law_176 : decode code 176 = .ok (.istore 5, 2) := by decide +kernel
theorem d_law_178 : decode code 178 = .ok (.aload_n 2, 1) := by decide +kernel
theorem d_law_179 : decode code 179 = .ok (.aload_n 0, 1) := by decide +kernel
theorem d_law_180 : decode code 180 = .ok (.iload 4, 2) := by decide +kernel
theorem d_law_182 : decode code 182 = .ok (.iconst 1, 1) := by decide +kernel
theorem d_law_183 : decode code 183 = .ok (.iadd, 1) := by decide +kernel
theorem d_law_184 : decode code 184 = .ok (.iaload, 1) := by decide +kernel
theorem d_law_185 : decode code 185 = .ok (.aload_n 0, 1) := by decide +kernel
theorem d_law_186 : decode code 186 = .ok (.iload 4, 2) := by decide +kernel
theorem d_law_188 : decode code 188 = .ok (.iconst 2, 1) := by decide +kernel
theorem d_law_189 : decode code 189 = .ok (.iadd, 1) := by decide +kernel
theorem d_law_190 : decode code 190 = .ok (.iaload, 1) := by decide +kernel
theorem d_law_191 : decode code 191 = .ok (.invokevirtual 68, 3) := by decide +kernel
theorem d_law_194 : decode code 194 = .ok (.aload_n 2, 1) := by decide +kernel
theorem d_law_195 : decode code 195 = .ok (.invokevirtual 63, 3) := by decide +kernel
theorem d_law_198 : decode code 198 = .ok (.iload 5, 2) := by decide +kernel
theorem d_law_200 : decode code 200 = .ok (.if_icmp .eq 5, 3) := by decide +kernel
theorem d_law_203 : decode code 203 = .ok (.iconst 0, 1) := by decide +kernel
theorem d_law_204 : decode code 204 = .ok (.ireturn, 1) := by decide +kernel
theorem d_law_205 : decode code 205 = .ok (.goto 615, 3) := by decide +kernel
theorem d_law_208 : decode code 208 = .ok (.aload_n 1, 1) := by decide +kernel
theorem d_law_209 : decode code 209 = .ok (.aload_n 0, 1) := by decide +kernel
theorem d_law_210 : decode code 210 = .ok (.iload 4, 2) := by decide +kernel
theorem d_law_212 : decode code 212 = .ok (.iconst 1, 1) := by decide +kernel
theorem d_law_213 : decode code 213 = .ok (.iadd, 1) := by decide +kernel
theorem d_law_214 : decode code 214 = .ok (.iaload, 1) := by decide +kernel
theorem d_law_215 : decode code 215 = .ok (.i2l, 1) := by decide +kernel
theorem d_law_216 : decode code 216 = .ok (.bipush 32, 2) := by decide +kernel
theorem d_law_218 : decode code 218 = .ok (.lshl, 1) := by decide +kernel
theorem d_law_219 : decode code 219 = .ok (.aload_n 0, 1) := by decide +kernel
theorem d_law_220 : decode code 220 = .ok (.iload 4, 2) := by decide +kernel
theorem d_law_222 : decode code 222 = .ok (.iconst 2, 1) := by decide +kernel
theorem d_law_223 : decode code 223 = .ok (.iadd, 1) := by decide +kernel
theorem d_law_224 : decode code 224 = .ok (.iaload, 1) := by decide +kernel
theorem d_law_225 : decode code 225 = .ok (.i2l, 1) := by decide +kernel
theorem d_law_226 : decode code 226 = .ok (.ldc2_w 69, 3) := by decide +kernel
theorem d_law_229 : decode code 229 = .ok (.land, 1) := by decide +kernel
theorem d_law_230 : decode code 230 = .ok (.lor, 1) := by decide +kernel
theorem d_law_231 : decode code 231 = .ok (.aload_n 0, 1) := by decide +kernel
theorem d_law_232 : decode code 232 = .ok (.iload 4, 2) := by decide +kernel
theorem d_law_234 : decode code 234 = .ok (.iconst 3, 1) := by decide +kernel
theorem d_law_235 : decode code 235 = .ok (.iadd, 1) := by decide +kernel
theorem d_law_236 : decode code 236 = .ok (.iaload, 1) := by decide +kernel
theorem d_law_237 : decode code 237 = .ok (.aload_n 3, 1) := by decide +kernel
theorem d_law_238 : decode code 238 = .ok (.invokestatic 71, 3) := by decide +kernel
theorem d_law_241 : decode code 241 = .ok (.istore 5, 2) := by decide +kernel
theorem d_law_243 : decode code 243 = .ok (.aload_n 2, 1) := by decide +kernel
theorem d_law_244 : decode code 244 = .ok (.aload_n 0, 1) := by decide +kernel
theorem d_law_245 : decode code 245 = .ok (.iload 4, 2) := by decide +kernel
theorem d_law_247 : decode code 247 = .ok (.iconst 1, 1) := by decide +kernel
theorem d_law_248 : decode code 248 = .ok (.iadd, 1) := by decide +kernel
theorem d_law_249 : decode code 249 = .ok (.iaload, 1) := by decide +kernel
theorem d_law_250 : decode code 250 = .ok (.i2l, 1) := by decide +kernel
theorem d_law_251 : decode code 251 = .ok (.bipush 32, 2) := by decide +kernel
theorem d_law_253 : decode code 253 = .ok (.lshl, 1) := by decide +kernel
theorem d_law_254 : decode code 254 = .ok (.aload_n 0, 1) := by decide +kernel
theorem d_law_255 : decode code 255 = .ok (.iload 4, 2) := by decide +kernel
theorem d_law_257 : decode code 257 = .ok (.iconst 2, 1) := by decide +kernel
theorem d_law_258 : decode code 258 = .ok (.iadd, 1) := by decide +kernel
theorem d_law_259 : decode code 259 = .ok (.iaload, 1) := by decide +kernel
theorem d_law_260 : decode code 260 = .ok (.i2l, 1) := by decide +kernel
theorem d_law_261 : decode code 261 = .ok (.ldc2_w 69, 3) := by decide +kernel
theorem d_law_264 : decode code 264 = .ok (.land, 1) := by decide +kernel
theorem d_law_265 : decode code 265 = .ok (.lor, 1) := by decide +kernel
theorem d_law_266 : decode code 266 = .ok (.aload_n 0, 1) := by decide +kernel
theorem d_law_267 : decode code 267 = .ok (.iload 4, 2) := by decide +kernel
theorem d_law_269 : decode code 269 = .ok (.iconst 3, 1) := by decide +kernel
theorem d_law_270 : decode code 270 = .ok (.iadd, 1) := by decide +kernel
theorem d_law_271 : decode code 271 = .ok (.iaload, 1) := by decide +kernel
theorem d_law_272 : decode code 272 = .ok (.invokevirtual 74, 3) := by decide +kernel
theorem d_law_275 : decode code 275 = .ok (.istore 6, 2) := by decide +kernel
theorem d_law_277 : decode code 277 = .ok (.aload_n 2, 1) := by decide +kernel
theorem d_law_278 : decode code 278 = .ok (.invokevirtual 63, 3) := by decide +kernel
theorem d_law_281 : decode code 281 = .ok (.iload 5, 2) := by decide +kernel
theorem d_law_283 : decode code 283 = .ok (.if_icmp .eq 5, 3) := by decide +kernel
theorem d_law_286 : decode code 286 = .ok (.iconst 0, 1) := by decide +kernel
theorem d_law_287 : decode code 287 = .ok (.ireturn, 1) := by decide +kernel
theorem d_law_288 : decode code 288 = .ok (.iload 5, 2) := by decide +kernel
theorem d_law_290 : decode code 290 = .ok (.ifCond .ne 15, 3) := by decide +kernel
theorem d_law_293 : decode code 293 = .ok (.aload_n 3, 1) := by decide +kernel
theorem d_law_294 : decode code 294 = .ok (.iconst 0, 1) := by decide +kernel
theorem d_law_295 : decode code 295 = .ok (.laload, 1) := by decide +kernel
theorem d_law_296 : decode code 296 = .ok (.iload 6, 2) := by decide +kernel
theorem d_law_298 : decode code 298 = .ok (.i2l, 1) := by decide +kernel
theorem d_law_299 : decode code 299 = .ok (.lcmp, 1) := by decide +kernel
theorem d_law_300 : decode code 300 = .ok (.ifCond .eq 5, 3) := by decide +kernel
theorem d_law_303 : decode code 303 = .ok (.iconst 0, 1) := by decide +kernel
theorem d_law_304 : decode code 304 = .ok (.ireturn, 1) := by decide +kernel
theorem d_law_305 : decode code 305 = .ok (.goto 515, 3) := by decide +kernel
theorem d_law_308 : decode code 308 = .ok (.aload_n 1, 1) := by decide +kernel
theorem d_law_309 : decode code 309 = .ok (.invokevirtual 75, 3) := by decide +kernel
theorem d_law_312 : decode code 312 = .ok (.aload_n 2, 1) := by decide +kernel
theorem d_law_313 : decode code 313 = .ok (.invokevirtual 78, 3) := by decide +kernel
theorem d_law_316 : decode code 316 = .ok (.if_icmp .eq 504, 3) := by decide +kernel
theorem d_law_319 : decode code 319 = .ok (.iconst 0, 1) := by decide +kernel
theorem d_law_320 : decode code 320 = .ok (.ireturn, 1) := by decide +kernel
theorem d_law_321 : decode code 321 = .ok (.aload_n 1, 1) := by decide +kernel
theorem d_law_322 : decode code 322 = .ok (.invokevirtual 79, 3) := by decide +kernel
theorem d_law_325 : decode code 325 = .ok (.aload_n 2, 1) := by decide +kernel
theorem d_law_326 : decode code 326 = .ok (.invokevirtual 82, 3) := by decide +kernel
theorem d_law_329 : decode code 329 = .ok (.if_icmp .eq 491, 3) := by decide +kernel
theorem d_law_332 : decode code 332 = .ok (.iconst 0, 1) := by decide +kernel
theorem d_law_333 : decode code 333 = .ok (.ireturn, 1) := by decide +kernel
theorem d_law_334 : decode code 334 = .ok (.aload_n 1, 1) := by decide +kernel
theorem d_law_335 : decode code 335 = .ok (.aload_n 0, 1) := by decide +kernel
theorem d_law_336 : decode code 336 = .ok (.iload 4, 2) := by decide +kernel
theorem d_law_338 : decode code 338 = .ok (.iconst 1, 1) := by decide +kernel
theorem d_law_339 : decode code 339 = .ok (.iadd, 1) := by decide +kernel
theorem d_law_340 : decode code 340 = .ok (.iaload, 1) := by decide +kernel
theorem d_law_341 : decode code 341 = .ok (.aload_n 0, 1) := by decide +kernel
theorem d_law_342 : decode code 342 = .ok (.iload 4, 2) := by decide +kernel
theorem d_law_344 : decode code 344 = .ok (.iconst 2, 1) := by decide +kernel
theorem d_law_345 : decode code 345 = .ok (.iadd, 1) := by decide +kernel
theorem d_law_346 : decode code 346 = .ok (.iaload, 1) := by decide +kernel
theorem d_law_347 : decode code 347 = .ok (.aload_n 3, 1) := by decide +kernel
theorem d_law_348 : decode code 348 = .ok (.invokestatic 83, 3) := by decide +kernel
theorem d_law_351 : decode code 351 = .ok (.istore 5, 2) := by decide +kernel
theorem d_law_353 : decode code 353 = .ok (.aload_n 2, 1) := by decide +kernel
theorem d_law_354 : decode code 354 = .ok (.aload_n 0, 1) := by decide +kernel
theorem d_law_355 : decode code 355 = .ok (.iload 4, 2) := by decide +kernel
theorem d_law_357 : decode code 357 = .ok (.iconst 1, 1) := by decide +kernel
theorem d_law_358 : decode code 358 = .ok (.iadd, 1) := by decide +kernel
theorem d_law_359 : decode code 359 = .ok (.iaload, 1) := by decide +kernel
theorem d_law_360 : decode code 360 = .ok (.aload_n 0, 1) := by decide +kernel
theorem d_law_361 : decode code 361 = .ok (.iload 4, 2) := by decide +kernel
theorem d_law_363 : decode code 363 = .ok (.iconst 2, 1) := by decide +kernel
theorem d_law_364 : decode code 364 = .ok (.iadd, 1) := by decide +kernel
theorem d_law_365 : decode code 365 = .ok (.iaload, 1) := by decide +kernel
theorem d_law_366 : decode code 366 = .ok (.invokevirtual 86, 3) := by decide +kernel
theorem d_law_369 : decode code 369 = .ok (.istore 6, 2) := by decide +kernel
theorem d_law_371 : decode code 371 = .ok (.aload_n 2, 1) := by decide +kernel
theorem d_law_372 : decode code 372 = .ok (.invokevirtual 63, 3) := by decide +kernel
theorem d_law_375 : decode code 375 = .ok (.iload 5, 2) := by decide +kernel
theorem d_law_377 : decode code 377 = .ok (.if_icmp .eq 5, 3) := by decide +kernel
theorem d_law_380 : decode code 380 = .ok (.iconst 0, 1) := by decide +kernel
theorem d_law_381 : decode code 381 = .ok (.ireturn, 1) := by decide +kernel
theorem d_law_382 : decode code 382 = .ok (.iload 5, 2) := by decide +kernel
theorem d_law_384 : decode code 384 = .ok (.ifCond .ne 15, 3) := by decide +kernel
theorem d_law_387 : decode code 387 = .ok (.aload_n 3, 1) := by decide +kernel
theorem d_law_388 : decode code 388 = .ok (.iconst 0, 1) := by decide +kernel
theorem d_law_389 : decode code 389 = .ok (.laload, 1) := by decide +kernel
theorem d_law_390 : decode code 390 = .ok (.iload 6, 2) := by decide +kernel
theorem d_law_392 : decode code 392 = .ok (.i2l, 1) := by decide +kernel
theorem d_law_393 : decode code 393 = .ok (.lcmp, 1) := by decide +kernel
theorem d_law_394 : decode code 394 = .ok (.ifCond .eq 5, 3) := by decide +kernel
theorem d_law_397 : decode code 397 = .ok (.iconst 0, 1) := by decide +kernel
theorem d_law_398 : decode code 398 = .ok (.ireturn, 1) := by decide +kernel
theorem d_law_399 : decode code 399 = .ok (.goto 421, 3) := by decide +kernel
theorem d_law_402 : decode code 402 = .ok (.aload_n 1, 1) := by decide +kernel
theorem d_law_403 : decode code 403 = .ok (.aload_n 0, 1) := by decide +kernel
theorem d_law_404 : decode code 404 = .ok (.iload 4, 2) := by decide +kernel
theorem d_law_406 : decode code 406 = .ok (.iconst 1, 1) := by decide +kernel
theorem d_law_407 : decode code 407 = .ok (.iadd, 1) := by decide +kernel
theorem d_law_408 : decode code 408 = .ok (.iaload, 1) := by decide +kernel
theorem d_law_409 : decode code 409 = .ok (.aload_n 3, 1) := by decide +kernel
theorem d_law_410 : decode code 410 = .ok (.invokestatic 87, 3) := by decide +kernel
theorem d_law_413 : decode code 413 = .ok (.istore 5, 2) := by decide +kernel
theorem d_law_415 : decode code 415 = .ok (.aload_n 2, 1) := by decide +kernel
theorem d_law_416 : decode code 416 = .ok (.aload_n 0, 1) := by decide +kernel
theorem d_law_417 : decode code 417 = .ok (.iload 4, 2) := by decide +kernel
theorem d_law_419 : decode code 419 = .ok (.iconst 1, 1) := by decide +kernel
theorem d_law_420 : decode code 420 = .ok (.iadd, 1) := by decide +kernel
theorem d_law_421 : decode code 421 = .ok (.iaload, 1) := by decide +kernel
theorem d_law_422 : decode code 422 = .ok (.invokevirtual 90, 3) := by decide +kernel
theorem d_law_425 : decode code 425 = .ok (.istore 6, 2) := by decide +kernel
theorem d_law_427 : decode code 427 = .ok (.aload_n 2, 1) := by decide +kernel
theorem d_law_428 : decode code 428 = .ok (.invokevirtual 63, 3) := by decide +kernel
theorem d_law_431 : decode code 431 = .ok (.iload 5, 2) := by decide +kernel
theorem d_law_433 : decode code 433 = .ok (.if_icmp .eq 5, 3) := by decide +kernel
theorem d_law_436 : decode code 436 = .ok (.iconst 0, 1) := by decide +kernel
theorem d_law_437 : decode code 437 = .ok (.ireturn, 1) := by decide +kernel
theorem d_law_438 : decode code 438 = .ok (.iload 5, 2) := by decide +kernel
theorem d_law_440 : decode code 440 = .ok (.ifCond .ne 15, 3) := by decide +kernel
theorem d_law_443 : decode code 443 = .ok (.aload_n 3, 1) := by decide +kernel
theorem d_law_444 : decode code 444 = .ok (.iconst 0, 1) := by decide +kernel
theorem d_law_445 : decode code 445 = .ok (.laload, 1) := by decide +kernel
theorem d_law_446 : decode code 446 = .ok (.iload 6, 2) := by decide +kernel
theorem d_law_448 : decode code 448 = .ok (.i2l, 1) := by decide +kernel
theorem d_law_449 : decode code 449 = .ok (.lcmp, 1) := by decide +kernel
theorem d_law_450 : decode code 450 = .ok (.ifCond .eq 5, 3) := by decide +kernel
theorem d_law_453 : decode code 453 = .ok (.iconst 0, 1) := by decide +kernel
theorem d_law_454 : decode code 454 = .ok (.ireturn, 1) := by decide +kernel
theorem d_law_455 : decode code 455 = .ok (.goto 365, 3) := by decide +kernel
theorem d_law_458 : decode code 458 = .ok (.aload_n 1, 1) := by decide +kernel
theorem d_law_459 : decode code 459 = .ok (.invokevirtual 91, 3) := by decide +kernel
theorem d_law_462 : decode code 462 = .ok (.aload_n 2, 1) := by decide +kernel
theorem d_law_463 : decode code 463 = .ok (.invokevirtual 94, 3) := by decide +kernel
theorem d_law_466 : decode code 466 = .ok (.if_icmp .eq 354, 3) := by decide +kernel
theorem d_law_469 : decode code 469 = .ok (.iconst 0, 1) := by decide +kernel
theorem d_law_470 : decode code 470 = .ok (.ireturn, 1) := by decide +kernel
theorem d_law_471 : decode code 471 = .ok (.aload_n 1, 1) := by decide +kernel
theorem d_law_472 : decode code 472 = .ok (.aload_n 0, 1) := by decide +kernel
theorem d_law_473 : decode code 473 = .ok (.iload 4, 2) := by decide +kernel
theorem d_law_475 : decode code 475 = .ok (.iconst 1, 1) := by decide +kernel
theorem d_law_476 : decode code 476 = .ok (.iadd, 1) := by decide +kernel
theorem d_law_477 : decode code 477 = .ok (.iaload, 1) := by decide +kernel
theorem d_law_478 : decode code 478 = .ok (.aload_n 0, 1) := by decide +kernel
theorem d_law_479 : decode code 479 = .ok (.iload 4, 2) := by decide +kernel
theorem d_law_481 : decode code 481 = .ok (.iconst 2, 1) := by decide +kernel
theorem d_law_482 : decode code 482 = .ok (.iadd, 1) := by decide +kernel
theorem d_law_483 : decode code 483 = .ok (.iaload, 1) := by decide +kernel
theorem d_law_484 : decode code 484 = .ok (.aload_n 3, 1) := by decide +kernel
theorem d_law_485 : decode code 485 = .ok (.invokestatic 95, 3) := by decide +kernel
theorem d_law_488 : decode code 488 = .ok (.istore 5, 2) := by decide +kernel
theorem d_law_490 : decode code 490 = .ok (.aload_n 2, 1) := by decide +kernel
theorem d_law_491 : decode code 491 = .ok (.aload_n 0, 1) := by decide +kernel
theorem d_law_492 : decode code 492 = .ok (.iload 4, 2) := by decide +kernel
theorem d_law_494 : decode code 494 = .ok (.iconst 1, 1) := by decide +kernel
theorem d_law_495 : decode code 495 = .ok (.iadd, 1) := by decide +kernel
theorem d_law_496 : decode code 496 = .ok (.iaload, 1) := by decide +kernel
theorem d_law_497 : decode code 497 = .ok (.aload_n 0, 1) := by decide +kernel
theorem d_law_498 : decode code 498 = .ok (.iload 4, 2) := by decide +kernel
theorem d_law_500 : decode code 500 = .ok (.iconst 2, 1) := by decide +kernel
theorem d_law_501 : decode code 501 = .ok (.iadd, 1) := by decide +kernel
theorem d_law_502 : decode code 502 = .ok (.iaload, 1) := by decide +kernel
theorem d_law_503 : decode code 503 = .ok (.invokevirtual 97, 3) := by decide +kernel
theorem d_law_506 : decode code 506 = .ok (.istore 6, 2) := by decide +kernel
theorem d_law_508 : decode code 508 = .ok (.aload_n 2, 1) := by decide +kernel
theorem d_law_509 : decode code 509 = .ok (.invokevirtual 63, 3) := by decide +kernel
theorem d_law_512 : decode code 512 = .ok (.iload 5, 2) := by decide +kernel
theorem d_law_514 : decode code 514 = .ok (.if_icmp .eq 5, 3) := by decide +kernel
theorem d_law_517 : decode code 517 = .ok (.iconst 0, 1) := by decide +kernel
theorem d_law_518 : decode code 518 = .ok (.ireturn, 1) := by decide +kernel
theorem d_law_519 : decode code 519 = .ok (.iload 5, 2) := by decide +kernel
theorem d_law_521 : decode code 521 = .ok (.ifCond .ne 15, 3) := by decide +kernel
theorem d_law_524 : decode code 524 = .ok (.aload_n 3, 1) := by decide +kernel
theorem d_law_525 : decode code 525 = .ok (.iconst 0, 1) := by decide +kernel
theorem d_law_526 : decode code 526 = .ok (.laload, 1) := by decide +kernel
theorem d_law_527 : decode code 527 = .ok (.iload 6, 2) := by decide +kernel
theorem d_law_529 : decode code 529 = .ok (.i2l, 1) := by decide +kernel
theorem d_law_530 : decode code 530 = .ok (.lcmp, 1) := by decide +kernel
theorem d_law_531 : decode code 531 = .ok (.ifCond .eq 5, 3) := by decide +kernel
theorem d_law_534 : decode code 534 = .ok (.iconst 0, 1) := by decide +kernel
theorem d_law_535 : decode code 535 = .ok (.ireturn, 1) := by decide +kernel
theorem d_law_536 : decode code 536 = .ok (.goto 284, 3) := by decide +kernel
theorem d_law_539 : decode code 539 = .ok (.aload_n 1, 1) := by decide +kernel
theorem d_law_540 : decode code 540 = .ok (.invokevirtual 98, 3) := by decide +kernel
theorem d_law_543 : decode code 543 = .ok (.aload_n 2, 1) := by decide +kernel
theorem d_law_544 : decode code 544 = .ok (.invokevirtual 101, 3) := by decide +kernel
theorem d_law_547 : decode code 547 = .ok (.if_icmp .eq 273, 3) := by decide +kernel
theorem d_law_550 : decode code 550 = .ok (.iconst 0, 1) := by decide +kernel
theorem d_law_551 : decode code 551 = .ok (.ireturn, 1) := by decide +kernel
theorem d_law_552 : decode code 552 = .ok (.aload_n 1, 1) := by decide +kernel
theorem d_law_553 : decode code 553 = .ok (.aload_n 3, 1) := by decide +kernel
theorem d_law_554 : decode code 554 = .ok (.invokestatic 102, 3) := by decide +kernel
theorem d_law_557 : decode code 557 = .ok (.istore 5, 2) := by decide +kernel
theorem d_law_559 : decode code 559 = .ok (.aload_n 2, 1) := by decide +kernel
theorem d_law_560 : decode code 560 = .ok (.invokevirtual 105, 3) := by decide +kernel
theorem d_law_563 : decode code 563 = .ok (.istore 6, 2) := by decide +kernel
theorem d_law_565 : decode code 565 = .ok (.aload_n 2, 1) := by decide +kernel
theorem d_law_566 : decode code 566 = .ok (.invokevirtual 63, 3) := by decide +kernel
theorem d_law_569 : decode code 569 = .ok (.iload 5, 2) := by decide +kernel
theorem d_law_571 : decode code 571 = .ok (.if_icmp .eq 5, 3) := by decide +kernel
theorem d_law_574 : decode code 574 = .ok (.iconst 0, 1) := by decide +kernel
theorem d_law_575 : decode code 575 = .ok (.ireturn, 1) := by decide +kernel
theorem d_law_576 : decode code 576 = .ok (.iload 5, 2) := by decide +kernel
theorem d_law_578 : decode code 578 = .ok (.ifCond .ne 15, 3) := by decide +kernel
theorem d_law_581 : decode code 581 = .ok (.aload_n 3, 1) := by decide +kernel
theorem d_law_582 : decode code 582 = .ok (.iconst 0, 1) := by decide +kernel
theorem d_law_583 : decode code 583 = .ok (.laload, 1) := by decide +kernel
theorem d_law_584 : decode code 584 = .ok (.iload 6, 2) := by decide +kernel
theorem d_law_586 : decode code 586 = .ok (.i2l, 1) := by decide +kernel
theorem d_law_587 : decode code 587 = .ok (.lcmp, 1) := by decide +kernel
theorem d_law_588 : decode code 588 = .ok (.ifCond .eq 5, 3) := by decide +kernel
theorem d_law_591 : decode code 591 = .ok (.iconst 0, 1) := by decide +kernel
theorem d_law_592 : decode code 592 = .ok (.ireturn, 1) := by decide +kernel
theorem d_law_593 : decode code 593 = .ok (.goto 227, 3) := by decide +kernel
theorem d_law_596 : decode code 596 = .ok (.aload_n 1, 1) := by decide +kernel
theorem d_law_597 : decode code 597 = .ok (.aload_n 0, 1) := by decide +kernel
theorem d_law_598 : decode code 598 = .ok (.iload 4, 2) := by decide +kernel
theorem d_law_600 : decode code 600 = .ok (.iconst 1, 1) := by decide +kernel
theorem d_law_601 : decode code 601 = .ok (.iadd, 1) := by decide +kernel
theorem d_law_602 : decode code 602 = .ok (.iaload, 1) := by decide +kernel
theorem d_law_603 : decode code 603 = .ok (.aload_n 3, 1) := by decide +kernel
theorem d_law_604 : decode code 604 = .ok (.invokestatic 106, 3) := by decide +kernel
theorem d_law_607 : decode code 607 = .ok (.istore 5, 2) := by decide +kernel
theorem d_law_609 : decode code 609 = .ok (.aload_n 2, 1) := by decide +kernel
theorem d_law_610 : decode code 610 = .ok (.aload_n 0, 1) := by decide +kernel
theorem d_law_611 : decode code 611 = .ok (.iload 4, 2) := by decide +kernel
theorem d_law_613 : decode code 613 = .ok (.iconst 1, 1) := by decide +kernel
theorem d_law_614 : decode code 614 = .ok (.iadd, 1) := by decide +kernel
theorem d_law_615 : decode code 615 = .ok (.iaload, 1) := by decide +kernel
theorem d_law_616 : decode code 616 = .ok (.invokevirtual 108, 3) := by decide +kernel
theorem d_law_619 : decode code 619 = .ok (.istore 6, 2) := by decide +kernel
theorem d_law_621 : decode code 621 = .ok (.aload_n 2, 1) := by decide +kernel
theorem d_law_622 : decode code 622 = .ok (.invokevirtual 63, 3) := by decide +kernel
theorem d_law_625 : decode code 625 = .ok (.iload 5, 2) := by decide +kernel
theorem d_law_627 : decode code 627 = .ok (.if_icmp .eq 5, 3) := by decide +kernel
theorem d_law_630 : decode code 630 = .ok (.iconst 0, 1) := by decide +kernel
theorem d_law_631 : decode code 631 = .ok (.ireturn, 1) := by decide +kernel
theorem d_law_632 : decode code 632 = .ok (.iload 5, 2) := by decide +kernel
theorem d_law_634 : decode code 634 = .ok (.ifCond .ne 15, 3) := by decide +kernel
theorem d_law_637 : decode code 637 = .ok (.aload_n 3, 1) := by decide +kernel
theorem d_law_638 : decode code 638 = .ok (.iconst 0, 1) := by decide +kernel
theorem d_law_639 : decode code 639 = .ok (.laload, 1) := by decide +kernel
theorem d_law_640 : decode code 640 = .ok (.iload 6, 2) := by decide +kernel
theorem d_law_642 : decode code 642 = .ok (.i2l, 1) := by decide +kernel
theorem d_law_643 : decode code 643 = .ok (.lcmp, 1) := by decide +kernel
theorem d_law_644 : decode code 644 = .ok (.ifCond .eq 5, 3) := by decide +kernel
theorem d_law_647 : decode code 647 = .ok (.iconst 0, 1) := by decide +kernel
theorem d_law_648 : decode code 648 = .ok (.ireturn, 1) := by decide +kernel
theorem d_law_649 : decode code 649 = .ok (.goto 171, 3) := by decide +kernel
theorem d_law_652 : decode code 652 = .ok (.aload_n 1, 1) := by decide +kernel
theorem d_law_653 : decode code 653 = .ok (.aload_n 0, 1) := by decide +kernel
theorem d_law_654 : decode code 654 = .ok (.iload 4, 2) := by decide +kernel
theorem d_law_656 : decode code 656 = .ok (.iconst 1, 1) := by decide +kernel
theorem d_law_657 : decode code 657 = .ok (.iadd, 1) := by decide +kernel
theorem d_law_658 : decode code 658 = .ok (.iaload, 1) := by decide +kernel
theorem d_law_659 : decode code 659 = .ok (.aload_n 3, 1) := by decide +kernel
theorem d_law_660 : decode code 660 = .ok (.invokestatic 109, 3) := by decide +kernel
theorem d_law_663 : decode code 663 = .ok (.istore 5, 2) := by decide +kernel
theorem d_law_665 : decode code 665 = .ok (.aload_n 2, 1) := by decide +kernel
theorem d_law_666 : decode code 666 = .ok (.aload_n 0, 1) := by decide +kernel
theorem d_law_667 : decode code 667 = .ok (.iload 4, 2) := by decide +kernel
theorem d_law_669 : decode code 669 = .ok (.iconst 1, 1) := by decide +kernel
theorem d_law_670 : decode code 670 = .ok (.iadd, 1) := by decide +kernel
theorem d_law_671 : decode code 671 = .ok (.iaload, 1) := by decide +kernel
theorem d_law_672 : decode code 672 = .ok (.invokevirtual 111, 3) := by decide +kernel
theorem d_law_675 : decode code 675 = .ok (.istore 6, 2) := by decide +kernel
theorem d_law_677 : decode code 677 = .ok (.aload_n 2, 1) := by decide +kernel
theorem d_law_678 : decode code 678 = .ok (.invokevirtual 63, 3) := by decide +kernel
theorem d_law_681 : decode code 681 = .ok (.iload 5, 2) := by decide +kernel
theorem d_law_683 : decode code 683 = .ok (.if_icmp .eq 5, 3) := by decide +kernel
theorem d_law_686 : decode code 686 = .ok (.iconst 0, 1) := by decide +kernel
theorem d_law_687 : decode code 687 = .ok (.ireturn, 1) := by decide +kernel
theorem d_law_688 : decode code 688 = .ok (.iload 5, 2) := by decide +kernel
theorem d_law_690 : decode code 690 = .ok (.ifCond .ne 15, 3) := by decide +kernel
theorem d_law_693 : decode code 693 = .ok (.aload_n 3, 1) := by decide +kernel
theorem d_law_694 : decode code 694 = .ok (.iconst 0, 1) := by decide +kernel
theorem d_law_695 : decode code 695 = .ok (.laload, 1) := by decide +kernel
theorem d_law_696 : decode code 696 = .ok (.iload 6, 2) := by decide +kernel
theorem d_law_698 : decode code 698 = .ok (.i2l, 1) := by decide +kernel
theorem d_law_699 : decode code 699 = .ok (.lcmp, 1) := by decide +kernel
theorem d_law_700 : decode code 700 = .ok (.ifCond .eq 5, 3) := by decide +kernel
theorem d_law_703 : decode code 703 = .ok (.iconst 0, 1) := by decide +kernel
theorem d_law_704 : decode code 704 = .ok (.ireturn, 1) := by decide +kernel
theorem d_law_705 : decode code 705 = .ok (.goto 115, 3) := by decide +kernel
theorem d_law_708 : decode code 708 = .ok (.aload_n 1, 1) := by decide +kernel
theorem d_law_709 : decode code 709 = .ok (.aload_n 0, 1) := by decide +kernel
theorem d_law_710 : decode code 710 = .ok (.iload 4, 2) := by decide +kernel
theorem d_law_712 : decode code 712 = .ok (.iconst 1, 1) := by decide +kernel
theorem d_law_713 : decode code 713 = .ok (.iadd, 1) := by decide +kernel
theorem d_law_714 : decode code 714 = .ok (.iaload, 1) := by decide +kernel
theorem d_law_715 : decode code 715 = .ok (.aload_n 3, 1) := by decide +kernel
theorem d_law_716 : decode code 716 = .ok (.invokestatic 112, 3) := by decide +kernel
theorem d_law_719 : decode code 719 = .ok (.istore 5, 2) := by decide +kernel
theorem d_law_721 : decode code 721 = .ok (.aload_n 2, 1) := by decide +kernel
theorem d_law_722 : decode code 722 = .ok (.aload_n 0, 1) := by decide +kernel
theorem d_law_723 : decode code 723 = .ok (.iload 4, 2) := by decide +kernel
theorem d_law_725 : decode code 725 = .ok (.iconst 1, 1) := by decide +kernel
theorem d_law_726 : decode code 726 = .ok (.iadd, 1) := by decide +kernel
theorem d_law_727 : decode code 727 = .ok (.iaload, 1) := by decide +kernel
theorem d_law_728 : decode code 728 = .ok (.invokevirtual 114, 3) := by decide +kernel
theorem d_law_731 : decode code 731 = .ok (.istore 6, 2) := by decide +kernel
theorem d_law_733 : decode code 733 = .ok (.aload_n 2, 1) := by decide +kernel
theorem d_law_734 : decode code 734 = .ok (.invokevirtual 63, 3) := by decide +kernel
theorem d_law_737 : decode code 737 = .ok (.iload 5, 2) := by decide +kernel
theorem d_law_739 : decode code 739 = .ok (.if_icmp .eq 5, 3) := by decide +kernel
theorem d_law_742 : decode code 742 = .ok (.iconst 0, 1) := by decide +kernel
theorem d_law_743 : decode code 743 = .ok (.ireturn, 1) := by decide +kernel
theorem d_law_744 : decode code 744 = .ok (.iload 5, 2) := by decide +kernel
theorem d_law_746 : decode code 746 = .ok (.ifCond .ne 15, 3) := by decide +kernel
theorem d_law_749 : decode code 749 = .ok (.aload_n 3, 1) := by decide +kernel
theorem d_law_750 : decode code 750 = .ok (.iconst 0, 1) := by decide +kernel
theorem d_law_751 : decode code 751 = .ok (.laload, 1) := by decide +kernel
theorem d_law_752 : decode code 752 = .ok (.iload 6, 2) := by decide +kernel
theorem d_law_754 : decode code 754 = .ok (.i2l, 1) := by decide +kernel
theorem d_law_755 : decode code 755 = .ok (.lcmp, 1) := by decide +kernel
theorem d_law_756 : decode code 756 = .ok (.ifCond .eq 5, 3) := by decide +kernel
theorem d_law_759 : decode code 759 = .ok (.iconst 0, 1) := by decide +kernel
theorem d_law_760 : decode code 760 = .ok (.ireturn, 1) := by decide +kernel
theorem d_law_761 : decode code 761 = .ok (.goto 59, 3) := by decide +kernel
theorem d_law_764 : decode code 764 = .ok (.aload_n 1, 1) := by decide +kernel
theorem d_law_765 : decode code 765 = .ok (.aload_n 0, 1) := by decide +kernel
theorem d_law_766 : decode code 766 = .ok (.iload 4, 2) := by decide +kernel
theorem d_law_768 : decode code 768 = .ok (.iconst 1, 1) := by decide +kernel
theorem d_law_769 : decode code 769 = .ok (.iadd, 1) := by decide +kernel
theorem d_law_770 : decode code 770 = .ok (.iaload, 1) := by decide +kernel
theorem d_law_771 : decode code 771 = .ok (.aload_n 3, 1) := by decide +kernel
theorem d_law_772 : decode code 772 = .ok (.invokestatic 115, 3) := by decide +kernel
theorem d_law_775 : decode code 775 = .ok (.istore 5, 2) := by decide +kernel
theorem d_law_777 : decode code 777 = .ok (.aload_n 2, 1) := by decide +kernel
theorem d_law_778 : decode code 778 = .ok (.aload_n 0, 1) := by decide +kernel
theorem d_law_779 : decode code 779 = .ok (.iload 4, 2) := by decide +kernel
theorem d_law_781 : decode code 781 = .ok (.iconst 1, 1) := by decide +kernel
theorem d_law_782 : decode code 782 = .ok (.iadd, 1) := by decide +kernel
theorem d_law_783 : decode code 783 = .ok (.iaload, 1) := by decide +kernel
theorem d_law_784 : decode code 784 = .ok (.invokevirtual 117, 3) := by decide +kernel
theorem d_law_787 : decode code 787 = .ok (.istore 6, 2) := by decide +kernel
theorem d_law_789 : decode code 789 = .ok (.aload_n 2, 1) := by decide +kernel
theorem d_law_790 : decode code 790 = .ok (.invokevirtual 63, 3) := by decide +kernel
theorem d_law_793 : decode code 793 = .ok (.iload 5, 2) := by decide +kernel
theorem d_law_795 : decode code 795 = .ok (.if_icmp .eq 5, 3) := by decide +kernel
theorem d_law_798 : decode code 798 = .ok (.iconst 0, 1) := by decide +kernel
theorem d_law_799 : decode code 799 = .ok (.ireturn, 1) := by decide +kernel
theorem d_law_800 : decode code 800 = .ok (.iload 5, 2) := by decide +kernel
theorem d_law_802 : decode code 802 = .ok (.ifCond .ne 15, 3) := by decide +kernel
theorem d_law_805 : decode code 805 = .ok (.aload_n 3, 1) := by decide +kernel
theorem d_law_806 : decode code 806 = .ok (.iconst 0, 1) := by decide +kernel
theorem d_law_807 : decode code 807 = .ok (.laload, 1) := by decide +kernel
theorem d_law_808 : decode code 808 = .ok (.iload 6, 2) := by decide +kernel
theorem d_law_810 : decode code 810 = .ok (.i2l, 1) := by decide +kernel
theorem d_law_811 : decode code 811 = .ok (.lcmp, 1) := by decide +kernel
theorem d_law_812 : decode code 812 = .ok (.ifCond .eq 5, 3) := by decide +kernel
theorem d_law_815 : decode code 815 = .ok (.iconst 0, 1) := by decide +kernel
theorem d_law_816 : decode code 816 = .ok (.ireturn, 1) := by decide +kernel
theorem d_law_817 : decode code 817 = .ok (.goto 3, 3) := by decide +kernel
theorem d_law_820 : decode code 820 = .ok (.iinc 4 4, 3) := by decide +kernel
theorem d_law_823 : decode code 823 = .ok (.goto (-800), 3) := by decide +kernel
theorem d_law_826 : decode code 826 = .ok (.iconst 1, 1) := by decide +kernel
theorem d_law_827 : decode code 827 = .ok (.ireturn, 1) := by decide +kernel
/-- the script, which stands beside the world -/
def Sx (Δ : Ly) (G : Gm) (b L : Nat) (xs : Nat → Int32) : Prop := va_X b L xs (g_s G) (g_s G).heap ∧ b < (g_s G).heap.size ∧ ¬ Ar Δ (g_s G).heap.size b
theorem y_sld {Δ : Ly} {G : Gm} {μ : Mi} {Qr : Option Value → Sg → Prop} {Qe : Nat → Sg → Prop} {k n : Nat} {σ : Sg} {pc : Nat} {lv : List (Nat × Value)} {st : List Value} (cx : Cx Δ G μ) {b L : Nat} {xs : Nat → Int32} (hX : Sx Δ G b L xs) {i : Int32} (hi : vp_in i L) (d : decode (m_cc μ) pc = .ok (.iaload, 1)) (h : Y Δ G μ Qr Qe k n σ (pc + 1) lv (.int (xs i.toNatClampNeg) :: st)) : Y Δ G μ Qr Qe k n σ pc lv (.int i :: .ref b :: st) :=
  fun H locs ls hP hS hl => va_sld cx.1 cx.2.1 hX.1 hX.2.1 hX.2.2 hS hi d (h H locs ls hP hS hl)
theorem y_slen {Δ : Ly} {G : Gm} {μ : Mi} {Qr : Option Value → Sg → Prop} {Qe : Nat → Sg → Prop} {k n : Nat} {σ : Sg} {pc : Nat} {lv : List (Nat × Value)} {st : List Value} (cx : Cx Δ G μ) {b L : Nat} {xs : Nat → Int32} (hX : Sx Δ G b L xs) (d : decode (m_cc μ) pc = .ok (.arraylength, 1)) (h : Y Δ G μ Qr Qe k n σ (pc + 1) lv (.int (nI L) :: st)) : Y Δ G μ Qr Qe k n σ pc lv (.ref b :: st) :=
  fun H locs ls hP hS hl => va_slen cx.1 cx.2.1 hX.1 hX.2.1 hX.2.2 hS d (h H locs ls hP hS hl)
def w_law_820 (L : Nat) (xs : Nat → Int32) (K23 : Int32 → Sg → Prop) (Q : Int32 → Sg → Prop) (v4 : Int32) (σ : Sg) : Prop := ∀ x1 : Int32, x1 = v4 + 4 → (K23 x1 σ)
theorem b_law_820 {Δ : Ly} {G : Gm} {b L : Nat} {xs : Nat → Int32} {k n : Nat} {K23 : Int32 → Sg → Prop} {Q : Int32 → Sg → Prop} (cx : Cx Δ G mi_law) (hX : Sx Δ G b L xs) (hk : k + 8 ≤ 603072) (hn : n + 48 ≤ 7207018) (hK23 : ∀ (v4 : Int32) (σ : Sg), K23 v4 σ → Y Δ G mi_law (qI Q) noE (k + 8) (n + 48) σ 23 [(0, .ref b), (1, .ref (Δ.1 0)), (2, .ref (Δ.1 58)), (3, .ref (Δ.1 87)), (4, .int v4)] []) : ∀ (v4 : Int32) (σ : Sg), w_law_820 L xs K23 Q v4 σ → Y Δ G mi_law (qI Q) noE (k + 2) (n + 12) σ 820 [(0, .ref b), (1, .ref (Δ.1 0)), (2, .ref (Δ.1 58)), (3, .ref (Δ.1 87)), (4, .int v4)] [] := by
  intro v4 σ h
  unfold w_law_820 at h
  obtain ⟨x1, ex1⟩ : ∃ y : Int32, y = v4 + 4 := ⟨_, rfl⟩
  replace h := h x1 ex1
  refine y_iinc (v := x1) (lv' := [(4, .int x1), (0, .ref b), (1, .ref (Δ.1 0)), (2, .ref (Δ.1 58)), (3, .ref (Δ.1 87))]) cx (pc := 820) d_law_820 (j := 4) rfl (by rw [ex1]; rfl) (le_b rfl) rfl ?_
  refine y_goto cx (pc := 823) (tgt := 23) d_law_823 (by decide) ?_
  refine y_sub [1, 2, 3, 4, 0] rfl ?_
  refine y_wide (k := (k + 2)) (n := (n + 12)) (k' := k + 8) (n' := n + 48) (by omega) (by omega) ?_
  exact hK23 x1 σ h
def w_law_817 (L : Nat) (xs : Nat → Int32) (K23 : Int32 → Sg → Prop) (Q : Int32 → Sg → Prop) (v4 : Int32) (σ : Sg) : Prop := w_law_820 L xs K23 Q v4 σ
theorem b_law_817 {Δ : Ly} {G : Gm} {b L : Nat} {xs : Nat → Int32} {k n : Nat} {K23 : Int32 → Sg → Prop} {Q : Int32 → Sg → Prop} (cx : Cx Δ G mi_law) (hX : Sx Δ G b L xs) (hk : k + 8 ≤ 603072) (hn : n + 48 ≤ 7207018) (hK23 : ∀ (v4 : Int32) (σ : Sg), K23 v4 σ → Y Δ G mi_law (qI Q) noE (k + 8) (n + 48) σ 23 [(0, .ref b), (1, .ref (Δ.1 0)), (2, .ref (Δ.1 58)), (3, .ref (Δ.1 87)), (4, .int v4)] []) : ∀ (v4 : Int32) (σ : Sg), w_law_817 L xs K23 Q v4 σ → Y Δ G mi_law (qI Q) noE (k + 1) (n + 6) σ 817 [(0, .ref b), (1, .ref (Δ.1 0)), (2, .ref (Δ.1 58)), (3, .ref (Δ.1 87)), (4, .int v4)] [] := by
  intro v4 σ h
  unfold w_law_817 at h
  refine y_goto cx (pc := 817) (tgt := 820) d_law_817 (by decide) ?_
  refine y_wide (k := (k + 1)) (n := (n + 6)) (k' := (k + 2)) (n' := (n + 12)) (by omega) (by omega) ?_
  exact b_law_820 cx hX hk hn hK23 v4 σ h
def w_law_761 (L : Nat) (xs : Nat → Int32) (K23 : Int32 → Sg → Prop) (Q : Int32 → Sg → Prop) (v4 : Int32) (σ : Sg) : Prop := w_law_820 L xs K23 Q v4 σ
theorem b_law_761 {Δ : Ly} {G : Gm} {b L : Nat} {xs : Nat → Int32} {k n : Nat} {K23 : Int32 → Sg → Prop} {Q : Int32 → Sg → Prop} (cx : Cx Δ G mi_law) (hX : Sx Δ G b L xs) (hk : k + 8 ≤ 603072) (hn : n + 48 ≤ 7207018) (hK23 : ∀ (v4 : Int32) (σ : Sg), K23 v4 σ → Y Δ G mi_law (qI Q) noE (k + 8) (n + 48) σ 23 [(0, .ref b), (1, .ref (Δ.1 0)), (2, .ref (Δ.1 58)), (3, .ref (Δ.1 87)), (4, .int v4)] []) : ∀ (v4 : Int32) (σ : Sg), w_law_761 L xs K23 Q v4 σ → Y Δ G mi_law (qI Q) noE (k + 1) (n + 6) σ 761 [(0, .ref b), (1, .ref (Δ.1 0)), (2, .ref (Δ.1 58)), (3, .ref (Δ.1 87)), (4, .int v4)] [] := by
  intro v4 σ h
  unfold w_law_761 at h
  refine y_goto cx (pc := 761) (tgt := 820) d_law_761 (by decide) ?_
  refine y_wide (k := (k + 1)) (n := (n + 6)) (k' := (k + 2)) (n' := (n + 12)) (by omega) (by omega) ?_
  exact b_law_820 cx hX hk hn hK23 v4 σ h
def w_law_705 (L : Nat) (xs : Nat → Int32) (K23 : Int32 → Sg → Prop) (Q : Int32 → Sg → Prop) (v4 : Int32) (σ : Sg) : Prop := w_law_820 L xs K23 Q v4 σ
theorem b_law_705 {Δ : Ly} {G : Gm} {b L : Nat} {xs : Nat → Int32} {k n : Nat} {K23 : Int32 → Sg → Prop} {Q : Int32 → Sg → Prop} (cx : Cx Δ G mi_law) (hX : Sx Δ G b L xs) (hk : k + 8 ≤ 603072) (hn : n + 48 ≤ 7207018) (hK23 : ∀ (v4 : Int32) (σ : Sg), K23 v4 σ → Y Δ G mi_law (qI Q) noE (k + 8) (n + 48) σ 23 [(0, .ref b), (1, .ref (Δ.1 0)), (2, .ref (Δ.1 58)), (3, .ref (Δ.1 87)), (4, .int v4)] []) : ∀ (v4 : Int32) (σ : Sg), w_law_705 L xs K23 Q v4 σ → Y Δ G mi_law (qI Q) noE (k + 1) (n + 6) σ 705 [(0, .ref b), (1, .ref (Δ.1 0)), (2, .ref (Δ.1 58)), (3, .ref (Δ.1 87)), (4, .int v4)] [] := by
  intro v4 σ h
  unfold w_law_705 at h
  refine y_goto cx (pc := 705) (tgt := 820) d_law_705 (by decide) ?_
  refine y_wide (k := (k + 1)) (n := (n + 6)) (k' := (k + 2)) (n' := (n + 12)) (by omega) (by omega) ?_
  exact b_law_820 cx hX hk hn hK23 v4 σ h
def w_law_649 (L : Nat) (xs : Nat → Int32) (K23 : Int32 → Sg → Prop) (Q : Int32 → Sg → Prop) (v4 : Int32) (σ : Sg) : Prop := w_law_820 L xs K23 Q v4 σ
theorem b_law_649 {Δ : Ly} {G : Gm} {b L : Nat} {xs : Nat → Int32} {k n : Nat} {K23 : Int32 → Sg → Prop} {Q : Int32 → Sg → Prop} (cx : Cx Δ G mi_law) (hX : Sx Δ G b L xs) (hk : k + 8 ≤ 603072) (hn : n + 48 ≤ 7207018) (hK23 : ∀ (v4 : Int32) (σ : Sg), K23 v4 σ → Y Δ G mi_law (qI Q) noE (k + 8) (n + 48) σ 23 [(0, .ref b), (1, .ref (Δ.1 0)), (2, .ref (Δ.1 58)), (3, .ref (Δ.1 87)), (4, .int v4)] []) : ∀ (v4 : Int32) (σ : Sg), w_law_649 L xs K23 Q v4 σ → Y Δ G mi_law (qI Q) noE (k + 1) (n + 6) σ 649 [(0, .ref b), (1, .ref (Δ.1 0)), (2, .ref (Δ.1 58)), (3, .ref (Δ.1 87)), (4, .int v4)] [] := by
  intro v4 σ h
  unfold w_law_649 at h
  refine y_goto cx (pc := 649) (tgt := 820) d_law_649 (by decide) ?_
  refine y_wide (k := (k + 1)) (n := (n + 6)) (k' := (k + 2)) (n' := (n + 12)) (by omega) (by omega) ?_
  exact b_law_820 cx hX hk hn hK23 v4 σ h
def w_law_593 (L : Nat) (xs : Nat → Int32) (K23 : Int32 → Sg → Prop) (Q : Int32 → Sg → Prop) (v4 : Int32) (σ : Sg) : Prop := w_law_820 L xs K23 Q v4 σ
theorem b_law_593 {Δ : Ly} {G : Gm} {b L : Nat} {xs : Nat → Int32} {k n : Nat} {K23 : Int32 → Sg → Prop} {Q : Int32 → Sg → Prop} (cx : Cx Δ G mi_law) (hX : Sx Δ G b L xs) (hk : k + 8 ≤ 603072) (hn : n + 48 ≤ 7207018) (hK23 : ∀ (v4 : Int32) (σ : Sg), K23 v4 σ → Y Δ G mi_law (qI Q) noE (k + 8) (n + 48) σ 23 [(0, .ref b), (1, .ref (Δ.1 0)), (2, .ref (Δ.1 58)), (3, .ref (Δ.1 87)), (4, .int v4)] []) : ∀ (v4 : Int32) (σ : Sg), w_law_593 L xs K23 Q v4 σ → Y Δ G mi_law (qI Q) noE (k + 1) (n + 6) σ 593 [(0, .ref b), (1, .ref (Δ.1 0)), (2, .ref (Δ.1 58)), (3, .ref (Δ.1 87)), (4, .int v4)] [] := by
  intro v4 σ h
  unfold w_law_593 at h
  refine y_goto cx (pc := 593) (tgt := 820) d_law_593 (by decide) ?_
  refine y_wide (k := (k + 1)) (n := (n + 6)) (k' := (k + 2)) (n' := (n + 12)) (by omega) (by omega) ?_
  exact b_law_820 cx hX hk hn hK23 v4 σ h
def w_law_536 (L : Nat) (xs : Nat → Int32) (K23 : Int32 → Sg → Prop) (Q : Int32 → Sg → Prop) (v4 : Int32) (σ : Sg) : Prop := w_law_820 L xs K23 Q v4 σ
theorem b_law_536 {Δ : Ly} {G : Gm} {b L : Nat} {xs : Nat → Int32} {k n : Nat} {K23 : Int32 → Sg → Prop} {Q : Int32 → Sg → Prop} (cx : Cx Δ G mi_law) (hX : Sx Δ G b L xs) (hk : k + 8 ≤ 603072) (hn : n + 48 ≤ 7207018) (hK23 : ∀ (v4 : Int32) (σ : Sg), K23 v4 σ → Y Δ G mi_law (qI Q) noE (k + 8) (n + 48) σ 23 [(0, .ref b), (1, .ref (Δ.1 0)), (2, .ref (Δ.1 58)), (3, .ref (Δ.1 87)), (4, .int v4)] []) : ∀ (v4 : Int32) (σ : Sg), w_law_536 L xs K23 Q v4 σ → Y Δ G mi_law (qI Q) noE (k + 2) (n + 12) σ 536 [(0, .ref b), (1, .ref (Δ.1 0)), (2, .ref (Δ.1 58)), (3, .ref (Δ.1 87)), (4, .int v4)] [] := by
  intro v4 σ h
  unfold w_law_536 at h
  refine y_goto cx (pc := 536) (tgt := 820) d_law_536 (by decide) ?_
  exact b_law_820 cx hX hk hn hK23 v4 σ h
def w_law_455 (L : Nat) (xs : Nat → Int32) (K23 : Int32 → Sg → Prop) (Q : Int32 → Sg → Prop) (v4 : Int32) (σ : Sg) : Prop := w_law_820 L xs K23 Q v4 σ
theorem b_law_455 {Δ : Ly} {G : Gm} {b L : Nat} {xs : Nat → Int32} {k n : Nat} {K23 : Int32 → Sg → Prop} {Q : Int32 → Sg → Prop} (cx : Cx Δ G mi_law) (hX : Sx Δ G b L xs) (hk : k + 8 ≤ 603072) (hn : n + 48 ≤ 7207018) (hK23 : ∀ (v4 : Int32) (σ : Sg), K23 v4 σ → Y Δ G mi_law (qI Q) noE (k + 8) (n + 48) σ 23 [(0, .ref b), (1, .ref (Δ.1 0)), (2, .ref (Δ.1 58)), (3, .ref (Δ.1 87)), (4, .int v4)] []) : ∀ (v4 : Int32) (σ : Sg), w_law_455 L xs K23 Q v4 σ → Y Δ G mi_law (qI Q) noE (k + 1) (n + 6) σ 455 [(0, .ref b), (1, .ref (Δ.1 0)), (2, .ref (Δ.1 58)), (3, .ref (Δ.1 87)), (4, .int v4)] [] := by
  intro v4 σ h
  unfold w_law_455 at h
  refine y_goto cx (pc := 455) (tgt := 820) d_law_455 (by decide) ?_
  refine y_wide (k := (k + 1)) (n := (n + 6)) (k' := (k + 2)) (n' := (n + 12)) (by omega) (by omega) ?_
  exact b_law_820 cx hX hk hn hK23 v4 σ h
def w_law_399 (L : Nat) (xs : Nat → Int32) (K23 : Int32 → Sg → Prop) (Q : Int32 → Sg → Prop) (v4 : Int32) (σ : Sg) : Prop := w_law_820 L xs K23 Q v4 σ
theorem b_law_399 {Δ : Ly} {G : Gm} {b L : Nat} {xs : Nat → Int32} {k n : Nat} {K23 : Int32 → Sg → Prop} {Q : Int32 → Sg → Prop} (cx : Cx Δ G mi_law) (hX : Sx Δ G b L xs) (hk : k + 8 ≤ 603072) (hn : n + 48 ≤ 7207018) (hK23 : ∀ (v4 : Int32) (σ : Sg), K23 v4 σ → Y Δ G mi_law (qI Q) noE (k + 8) (n + 48) σ 23 [(0, .ref b), (1, .ref (Δ.1 0)), (2, .ref (Δ.1 58)), (3, .ref (Δ.1 87)), (4, .int v4)] []) : ∀ (v4 : Int32) (σ : Sg), w_law_399 L xs K23 Q v4 σ → Y Δ G mi_law (qI Q) noE (k + 2) (n + 12) σ 399 [(0, .ref b), (1, .ref (Δ.1 0)), (2, .ref (Δ.1 58)), (3, .ref (Δ.1 87)), (4, .int v4)] [] := by
  intro v4 σ h
  unfold w_law_399 at h
  refine y_goto cx (pc := 399) (tgt := 820) d_law_399 (by decide) ?_
  exact b_law_820 cx hX hk hn hK23 v4 σ h
def w_law_305 (L : Nat) (xs : Nat → Int32) (K23 : Int32 → Sg → Prop) (Q : Int32 → Sg → Prop) (v4 : Int32) (σ : Sg) : Prop := w_law_820 L xs K23 Q v4 σ
theorem b_law_305 {Δ : Ly} {G : Gm} {b L : Nat} {xs : Nat → Int32} {k n : Nat} {K23 : Int32 → Sg → Prop} {Q : Int32 → Sg → Prop} (cx : Cx Δ G mi_law) (hX : Sx Δ G b L xs) (hk : k + 8 ≤ 603072) (hn : n + 48 ≤ 7207018) (hK23 : ∀ (v4 : Int32) (σ : Sg), K23 v4 σ → Y Δ G mi_law (qI Q) noE (k + 8) (n + 48) σ 23 [(0, .ref b), (1, .ref (Δ.1 0)), (2, .ref (Δ.1 58)), (3, .ref (Δ.1 87)), (4, .int v4)] []) : ∀ (v4 : Int32) (σ : Sg), w_law_305 L xs K23 Q v4 σ → Y Δ G mi_law (qI Q) noE (k + 2) (n + 12) σ 305 [(0, .ref b), (1, .ref (Δ.1 0)), (2, .ref (Δ.1 58)), (3, .ref (Δ.1 87)), (4, .int v4)] [] := by
  intro v4 σ h
  unfold w_law_305 at h
  refine y_goto cx (pc := 305) (tgt := 820) d_law_305 (by decide) ?_
  exact b_law_820 cx hX hk hn hK23 v4 σ h
def w_law_23 (L : Nat) (xs : Nat → Int32) (Q : Int32 → Sg → Prop) : Nat → Int32 → Sg → Prop
  | 0, _, _ => False
  | n + 1, v4, σ => (((nI L) - 4) < v4 → (Q 1 σ)) ∧ (¬ ((nI L) - 4) < v4 → (vp_in v4 L ∧ ((((xs v4.toNatClampNeg) &&& 15) = 0 → (vp_in (v4 + 1) L ∧ (vp_in (v4 + 2) L ∧ (w_l_variable (xs (v4 + 1).toNatClampNeg) (xs (v4 + 2).toNatClampNeg) σ (fun x1 σ2 => vp_in (v4 + 1) L ∧ (vp_in (v4 + 2) L ∧ (w_m_variable (xs (v4 + 1).toNatClampNeg) (xs (v4 + 2).toNatClampNeg) σ2 (fun σ3 => w_m_thrown σ3 (fun x4 σ5 => (x4 = x1 → (w_law_820 L xs (w_law_23 L xs Q n) Q v4 σ5)) ∧ (¬ x4 = x1 → (Q 0 σ5))))))))))) ∧ (¬ ((xs v4.toNatClampNeg) &&& 15) = 0 → ((((xs v4.toNatClampNeg) &&& 15) = 1 → (vp_in (v4 + 1) L ∧ (vp_in (v4 + 2) L ∧ (w_l_word (xs (v4 + 1).toNatClampNeg) (xs (v4 + 2).toNatClampNeg) σ (fun x6 σ7 => vp_in (v4 + 1) L ∧ (vp_in (v4 + 2) L ∧ (w_m_word (xs (v4 + 1).toNatClampNeg) (xs (v4 + 2).toNatClampNeg) σ7 (fun σ8 => w_m_thrown σ8 (fun x9 σ10 => (x9 = x6 → (w_law_820 L xs (w_law_23 L xs Q n) Q v4 σ10)) ∧ (¬ x9 = x6 → (Q 0 σ10))))))))))) ∧ (¬ ((xs v4.toNatClampNeg) &&& 15) = 1 → ((((xs v4.toNatClampNeg) &&& 15) = 2 → (vp_in (v4 + 1) L ∧ (vp_in (v4 + 2) L ∧ (vp_in (v4 + 3) L ∧ (w_l_feed ((((xs (v4 + 1).toNatClampNeg).toInt64) <<< ((32 : Int32).toInt64 &&& 63)) ||| (((xs (v4 + 2).toNatClampNeg).toInt64) &&& 4294967295)) (xs (v4 + 3).toNatClampNeg) σ (fun x11 σ12 => vp_in (v4 + 1) L ∧ (vp_in (v4 + 2) L ∧ (vp_in (v4 + 3) L ∧ (w_m_feed ((((xs (v4 + 1).toNatClampNeg).toInt64) <<< ((32 : Int32).toInt64 &&& 63)) ||| (((xs (v4 + 2).toNatClampNeg).toInt64) &&& 4294967295)) (xs (v4 + 3).toNatClampNeg) σ12 (fun x13 σ14 => w_m_thrown σ14 (fun x15 σ16 => (x15 = x11 → ((¬ x11 = 0 → (w_law_305 L xs (w_law_23 L xs Q n) Q v4 σ16)) ∧ (x11 = 0 → ((((σ16 87 0).toInt64) = (x13.toInt64) → (w_law_305 L xs (w_law_23 L xs Q n) Q v4 σ16)) ∧ (¬ ((σ16 87 0).toInt64) = (x13.toInt64) → (Q 0 σ16)))))) ∧ (¬ x15 = x11 → (Q 0 σ16))))))))))))) ∧ (¬ ((xs v4.toNatClampNeg) &&& 15) = 2 → ((((xs v4.toNatClampNeg) &&& 15) = 3 → (w_x_read σ (fun x17 σ18 => w_m_read σ18 (fun x19 σ20 => (x17 = x19 → (w_law_820 L xs (w_law_23 L xs Q n) Q v4 σ20)) ∧ (¬ x17 = x19 → (Q 0 σ20)))))) ∧ (¬ ((xs v4.toNatClampNeg) &&& 15) = 3 → ((((xs v4.toNatClampNeg) &&& 15) = 4 → (w_x_fault σ (fun x21 σ22 => w_m_fault σ22 (fun x23 σ24 => (x21 = x23 → (w_law_820 L xs (w_law_23 L xs Q n) Q v4 σ24)) ∧ (¬ x21 = x23 → (Q 0 σ24)))))) ∧ (¬ ((xs v4.toNatClampNeg) &&& 15) = 4 → ((((xs v4.toNatClampNeg) &&& 15) = 5 → (vp_in (v4 + 1) L ∧ (vp_in (v4 + 2) L ∧ (w_l_statement (xs (v4 + 1).toNatClampNeg) (xs (v4 + 2).toNatClampNeg) σ (fun x25 σ26 => vp_in (v4 + 1) L ∧ (vp_in (v4 + 2) L ∧ (w_m_statement (xs (v4 + 1).toNatClampNeg) (xs (v4 + 2).toNatClampNeg) σ26 (fun x27 σ28 => w_m_thrown σ28 (fun x29 σ30 => (x29 = x25 → ((¬ x25 = 0 → (w_law_399 L xs (w_law_23 L xs Q n) Q v4 σ30)) ∧ (x25 = 0 → ((((σ30 87 0).toInt64) = (x27.toInt64) → (w_law_399 L xs (w_law_23 L xs Q n) Q v4 σ30)) ∧ (¬ ((σ30 87 0).toInt64) = (x27.toInt64) → (Q 0 σ30)))))) ∧ (¬ x29 = x25 → (Q 0 σ30))))))))))) ∧ (¬ ((xs v4.toNatClampNeg) &&& 15) = 5 → ((((xs v4.toNatClampNeg) &&& 15) = 6 → (vp_in (v4 + 1) L ∧ (w_l_lower (xs (v4 + 1).toNatClampNeg) σ (fun x31 σ32 => vp_in (v4 + 1) L ∧ (w_m_lower (xs (v4 + 1).toNatClampNeg) σ32 (fun x33 σ34 => w_m_thrown σ34 (fun x35 σ36 => (x35 = x31 → ((¬ x31 = 0 → (w_law_455 L xs (w_law_23 L xs Q n) Q v4 σ36)) ∧ (x31 = 0 → ((((σ36 87 0).toInt64) = (x33.toInt64) → (w_law_455 L xs (w_law_23 L xs Q n) Q v4 σ36)) ∧ (¬ ((σ36 87 0).toInt64) = (x33.toInt64) → (Q 0 σ36)))))) ∧ (¬ x35 = x31 → (Q 0 σ36))))))))) ∧ (¬ ((xs v4.toNatClampNeg) &&& 15) = 6 → ((((xs v4.toNatClampNeg) &&& 15) = 7 → (w_x_trim σ (fun x37 σ38 => w_m_trim σ38 (fun x39 σ40 => (x37 = x39 → (w_law_820 L xs (w_law_23 L xs Q n) Q v4 σ40)) ∧ (¬ x37 = x39 → (Q 0 σ40)))))) ∧ (¬ ((xs v4.toNatClampNeg) &&& 15) = 7 → ((((xs v4.toNatClampNeg) &&& 15) = 8 → (vp_in (v4 + 1) L ∧ (vp_in (v4 + 2) L ∧ (w_l_step (xs (v4 + 1).toNatClampNeg) (xs (v4 + 2).toNatClampNeg) σ (fun x41 σ42 => vp_in (v4 + 1) L ∧ (vp_in (v4 + 2) L ∧ (w_m_step (xs (v4 + 1).toNatClampNeg) (xs (v4 + 2).toNatClampNeg) σ42 (fun x43 σ44 => w_m_thrown σ44 (fun x45 σ46 => (x45 = x41 → ((¬ x41 = 0 → (w_law_536 L xs (w_law_23 L xs Q n) Q v4 σ46)) ∧ (x41 = 0 → ((((σ46 87 0).toInt64) = (x43.toInt64) → (w_law_536 L xs (w_law_23 L xs Q n) Q v4 σ46)) ∧ (¬ ((σ46 87 0).toInt64) = (x43.toInt64) → (Q 0 σ46)))))) ∧ (¬ x45 = x41 → (Q 0 σ46))))))))))) ∧ (¬ ((xs v4.toNatClampNeg) &&& 15) = 8 → ((((xs v4.toNatClampNeg) &&& 15) = 9 → (w_x_tell_ σ (fun x47 σ48 => w_m_tell σ48 (fun x49 σ50 => (x47 = x49 → (w_law_820 L xs (w_law_23 L xs Q n) Q v4 σ50)) ∧ (¬ x47 = x49 → (Q 0 σ50)))))) ∧ (¬ ((xs v4.toNatClampNeg) &&& 15) = 9 → ((((xs v4.toNatClampNeg) &&& 15) = 10 → (w_l_run σ (fun x51 σ52 => w_m_run σ52 (fun x53 σ54 => w_m_thrown σ54 (fun x55 σ56 => (x55 = x51 → ((¬ x51 = 0 → (w_law_593 L xs (w_law_23 L xs Q n) Q v4 σ56)) ∧ (x51 = 0 → ((((σ56 87 0).toInt64) = (x53.toInt64) → (w_law_593 L xs (w_law_23 L xs Q n) Q v4 σ56)) ∧ (¬ ((σ56 87 0).toInt64) = (x53.toInt64) → (Q 0 σ56)))))) ∧ (¬ x55 = x51 → (Q 0 σ56))))))) ∧ (¬ ((xs v4.toNatClampNeg) &&& 15) = 10 → ((((xs v4.toNatClampNeg) &&& 15) = 11 → (vp_in (v4 + 1) L ∧ (w_l_left (xs (v4 + 1).toNatClampNeg) σ (fun x57 σ58 => vp_in (v4 + 1) L ∧ (w_m_left (xs (v4 + 1).toNatClampNeg) σ58 (fun x59 σ60 => w_m_thrown σ60 (fun x61 σ62 => (x61 = x57 → ((¬ x57 = 0 → (w_law_649 L xs (w_law_23 L xs Q n) Q v4 σ62)) ∧ (x57 = 0 → ((((σ62 87 0).toInt64) = (x59.toInt64) → (w_law_649 L xs (w_law_23 L xs Q n) Q v4 σ62)) ∧ (¬ ((σ62 87 0).toInt64) = (x59.toInt64) → (Q 0 σ62)))))) ∧ (¬ x61 = x57 → (Q 0 σ62))))))))) ∧ (¬ ((xs v4.toNatClampNeg) &&& 15) = 11 → ((((xs v4.toNatClampNeg) &&& 15) = 12 → (vp_in (v4 + 1) L ∧ (w_l_kept (xs (v4 + 1).toNatClampNeg) σ (fun x63 σ64 => vp_in (v4 + 1) L ∧ (w_m_kept (xs (v4 + 1).toNatClampNeg) σ64 (fun x65 σ66 => w_m_thrown σ66 (fun x67 σ68 => (x67 = x63 → ((¬ x63 = 0 → (w_law_705 L xs (w_law_23 L xs Q n) Q v4 σ68)) ∧ (x63 = 0 → ((((σ68 87 0).toInt64) = (x65.toInt64) → (w_law_705 L xs (w_law_23 L xs Q n) Q v4 σ68)) ∧ (¬ ((σ68 87 0).toInt64) = (x65.toInt64) → (Q 0 σ68)))))) ∧ (¬ x67 = x63 → (Q 0 σ68))))))))) ∧ (¬ ((xs v4.toNatClampNeg) &&& 15) = 12 → ((((xs v4.toNatClampNeg) &&& 15) = 13 → (vp_in (v4 + 1) L ∧ (w_l_output (xs (v4 + 1).toNatClampNeg) σ (fun x69 σ70 => vp_in (v4 + 1) L ∧ (w_m_output (xs (v4 + 1).toNatClampNeg) σ70 (fun x71 σ72 => w_m_thrown σ72 (fun x73 σ74 => (x73 = x69 → ((¬ x69 = 0 → (w_law_761 L xs (w_law_23 L xs Q n) Q v4 σ74)) ∧ (x69 = 0 → ((((σ74 87 0).toInt64) = (x71.toInt64) → (w_law_761 L xs (w_law_23 L xs Q n) Q v4 σ74)) ∧ (¬ ((σ74 87 0).toInt64) = (x71.toInt64) → (Q 0 σ74)))))) ∧ (¬ x73 = x69 → (Q 0 σ74))))))))) ∧ (¬ ((xs v4.toNatClampNeg) &&& 15) = 13 → ((((xs v4.toNatClampNeg) &&& 15) = 14 → (vp_in (v4 + 1) L ∧ (w_l_count (xs (v4 + 1).toNatClampNeg) σ (fun x75 σ76 => vp_in (v4 + 1) L ∧ (w_m_count (xs (v4 + 1).toNatClampNeg) σ76 (fun x77 σ78 => w_m_thrown σ78 (fun x79 σ80 => (x79 = x75 → ((¬ x75 = 0 → (w_law_817 L xs (w_law_23 L xs Q n) Q v4 σ80)) ∧ (x75 = 0 → ((((σ80 87 0).toInt64) = (x77.toInt64) → (w_law_817 L xs (w_law_23 L xs Q n) Q v4 σ80)) ∧ (¬ ((σ80 87 0).toInt64) = (x77.toInt64) → (Q 0 σ80)))))) ∧ (¬ x79 = x75 → (Q 0 σ80))))))))) ∧ (¬ ((xs v4.toNatClampNeg) &&& 15) = 14 → (w_law_820 L xs (w_law_23 L xs Q n) Q v4 σ)))))))))))))))))))))))))))))))))
theorem b_law_23 {Δ : Ly} {G : Gm} {b L : Nat} {xs : Nat → Int32} {Q : Int32 → Sg → Prop} (cx : Cx Δ G mi_law) (hX : Sx Δ G b L xs) : ∀ (q k n : Nat), k + 8 * q ≤ 603072 → n + 48 * q ≤ 7207018 → ∀ (v4 : Int32) (σ : Sg), w_law_23 L xs Q q v4 σ → Y Δ G mi_law (qI Q) noE k n σ 23 [(0, .ref b), (1, .ref (Δ.1 0)), (2, .ref (Δ.1 58)), (3, .ref (Δ.1 87)), (4, .int v4)] [] := by
  intro q
  induction q with
  | zero => intro k n _ _ v4 σ h; exact h.elim
  | succ q ih =>
    intro k n hkq hnq v4 σ h
    unfold w_law_23 at h
    have hk : k + 8 ≤ 603072 := by omega
    have hn : n + 48 ≤ 7207018 := by omega
    have hK23 := ih (k + 8) (n + 48) (by omega) (by omega)
    refine y_iload cx (pc := 23) d_law_23 4 rfl ?_
    refine y_aload_n cx (pc := 25) d_law_25 rfl 0 rfl ?_
    refine y_slen cx (pc := 26) hX d_law_26 ?_
    refine y_iconst cx (pc := 27) ic_4 d_law_27 ?_
    refine y_isub cx (pc := 28) d_law_28 ?_
    refine y_icmp_gt cx (pc := 29) (tgt := 826) d_law_29 (by decide) (fun hc => ?_) (fun hc => ?_)
    · replace h := h.1 hc
      refine y_iconst cx (pc := 826) ic_1 d_law_826 ?_
      exact y_zret cx (pc := 827) rfl bz_1 d_law_827 (by show k ≤ 603072; omega) (by show n ≤ 7207018; omega) h
    · replace h := h.2 hc
      refine y_aload_n cx (pc := 32) d_law_32 rfl 0 rfl ?_
      refine y_iload cx (pc := 33) d_law_33 4 rfl ?_
      obtain ⟨h0, h⟩ := h
      refine y_sld cx (pc := 35) hX h0 d_law_35 ?_
      refine y_bipush cx (pc := 36) bp_15 d_law_36 ?_
      refine y_iand cx (pc := 38) d_law_38 ?_
      by_cases hc0 : ((xs v4.toNatClampNeg) &&& 15) = 0
      · replace h := h.1 hc0
        refine y_tIn cx (pc := 39) (tgt := 112) (c := 0) d_law_39 hc0 (by decide) (by decide) rfl (by decide) ?_
        refine y_aload_n cx (pc := 112) d_law_112 rfl 1 rfl ?_
        refine y_aload_n cx (pc := 113) d_law_113 rfl 0 rfl ?_
        refine y_iload cx (pc := 114) d_law_114 4 rfl ?_
        refine y_iconst cx (pc := 116) ic_1 d_law_116 ?_
        refine y_iadd cx (pc := 117) d_law_117 ?_
        obtain ⟨h0, h⟩ := h
        refine y_sld cx (pc := 118) hX h0 d_law_118 ?_
        refine y_aload_n cx (pc := 119) d_law_119 rfl 0 rfl ?_
        refine y_iload cx (pc := 120) d_law_120 4 rfl ?_
        refine y_iconst cx (pc := 122) ic_2 d_law_122 ?_
        refine y_iadd cx (pc := 123) d_law_123 ?_
        obtain ⟨h0, h⟩ := h
        refine y_sld cx (pc := 124) hX h0 d_law_124 ?_
        refine y_sI cx (pc := 125) (st := []) [.ref (Δ.1 0), .int (xs (v4 + 1).toNatClampNeg), .int (xs (v4 + 2).toNatClampNeg)] (c_l_variable cx.fl Δ (xs (v4 + 1).toNatClampNeg) (xs (v4 + 2).toNatClampNeg) _ _ h) mv_l_variable kw_476 rfl (le_b rfl) (le_b rfl) (le_b rfl) (by show k + 1 ≤ 603072; omega) (by show n + 6 ≤ 7207018; omega) d_law_125 (fun x1 σ2 h => ?_) (fun x σ2 h => yt_no h)
        refine y_istore (lv' := [(5, .int x1), (0, .ref b), (1, .ref (Δ.1 0)), (2, .ref (Δ.1 58)), (3, .ref (Δ.1 87)), (4, .int v4)]) cx (pc := 128) d_law_128 (le_b rfl) rfl ?_
        refine y_aload_n cx (pc := 130) d_law_130 rfl 3 rfl ?_
        refine y_aload_n cx (pc := 131) d_law_131 rfl 1 rfl ?_
        refine y_iload cx (pc := 132) d_law_132 5 rfl ?_
        refine y_iconst cx (pc := 134) ic_1 d_law_134 ?_
        refine y_iadd cx (pc := 135) d_law_135 ?_
        obtain ⟨h0, h⟩ := h
        refine y_sld cx (pc := 136) hX h0 d_law_136 ?_
        refine y_aload_n cx (pc := 137) d_law_137 rfl 1 rfl ?_
        refine y_iload cx (pc := 138) d_law_138 5 rfl ?_
        refine y_iconst cx (pc := 140) ic_2 d_law_140 ?_
        refine y_iadd cx (pc := 141) d_law_141 ?_
        obtain ⟨h0, h⟩ := h
        refine y_sld cx (pc := 142) hX h0 d_law_142 ?_
        refine y_vV cx (pc := 143) (st := []) [.int (xs (v4 + 1).toNatClampNeg), .int (xs (v4 + 2).toNatClampNeg)] (c_m_variable cx.fl Δ (xs (v4 + 1).toNatClampNeg) (xs (v4 + 2).toNatClampNeg) _ _ h) mv_m_variable kw_888 (oc_58 Δ) ck_Md rfl (le_b rfl) (le_b rfl) (le_b rfl) (by show (k + 1) + 0 ≤ 603072; omega) (by show (n + 6) + 0 ≤ 7207018; omega) d_law_143 (fun σ3 h => ?_) (fun x σ3 h => yt_no h)
        refine y_aload_n cx (pc := 146) d_law_146 rfl 3 rfl ?_
        refine y_vI cx (pc := 147) (st := []) [] (c_m_thrown cx.fl Δ _ _ h) mv_m_thrown kw_884 (oc_58 Δ) ck_Md rfl (le_b rfl) (le_b rfl) (le_b rfl) (by show (k + 1) + 0 ≤ 603072; omega) (by show (n + 6) + 0 ≤ 7207018; omega) d_law_147 (fun x4 σ5 h => ?_) (fun x σ5 h => yt_no h)
        refine y_iload cx (pc := 150) d_law_150 0 rfl ?_
        refine y_icmp_eq cx (pc := 152) (tgt := 157) d_law_152 (by decide) (fun hc => ?_) (fun hc => ?_)
        · replace h := h.1 hc
          refine y_goto cx (pc := 157) (tgt := 820) d_law_157 (by decide) ?_
          refine y_wide (k := (k + 1)) (n := (n + 6)) (k' := (k + 2)) (n' := (n + 12)) (by omega) (by omega) ?_
          refine y_sub [1, 2, 3, 4, 5] rfl ?_
          exact b_law_820 cx hX hk hn hK23 v4 σ5 h
        · replace h := h.2 hc
          refine y_iconst cx (pc := 155) ic_0 d_law_155 ?_
          exact y_zret cx (pc := 156) rfl bz_0 d_law_156 (by show (k + 1) ≤ 603072; omega) (by show (n + 6) ≤ 7207018; omega) h
      replace h := h.2 hc0
      by_cases hc1 : ((xs v4.toNatClampNeg) &&& 15) = 1
      · replace h := h.1 hc1
        refine y_tIn cx (pc := 39) (tgt := 160) (c := 1) d_law_39 hc1 (by decide) (by decide) rfl (by decide) ?_
        refine y_aload_n cx (pc := 160) d_law_160 rfl 1 rfl ?_
        refine y_aload_n cx (pc := 161) d_law_161 rfl 0 rfl ?_
        refine y_iload cx (pc := 162) d_law_162 4 rfl ?_
        refine y_iconst cx (pc := 164) ic_1 d_law_164 ?_
        refine y_iadd cx (pc := 165) d_law_165 ?_
        obtain ⟨h0, h⟩ := h
        refine y_sld cx (pc := 166) hX h0 d_law_166 ?_
        refine y_aload_n cx (pc := 167) d_law_167 rfl 0 rfl ?_
        refine y_iload cx (pc := 168) d_law_168 4 rfl ?_
        refine y_iconst cx (pc := 170) ic_2 d_law_170 ?_
        refine y_iadd cx (pc := 171) d_law_171 ?_
        obtain ⟨h0, h⟩ := h
        refine y_sld cx (pc := 172) hX h0 d_law_172 ?_
        refine y_sI cx (pc := 173) (st := []) [.ref (Δ.1 0), .int (xs (v4 + 1).toNatClampNeg), .int (xs (v4 + 2).toNatClampNeg)] (c_l_word cx.fl Δ (xs (v4 + 1).toNatClampNeg) (xs (v4 + 2).toNatClampNeg) _ _ h) mv_l_word kw_542 rfl (le_b rfl) (le_b rfl) (le_b rfl) (by show k + 1 ≤ 603072; omega) (by show n + 6 ≤ 7207018; omega) d_law_173 (fun x6 σ7 h => ?_) (fun x σ7 h => yt_no h)
        refine y_istore (lv' := [(5, .int x6), (0, .ref b), (1, .ref (Δ.1 0)), (2, .ref (Δ.1 58)), (3, .ref (Δ.1 87)), (4, .int v4)]) cx (pc := 176) d_law_176 (le_b rfl) rfl ?_
        refine y_aload_n cx (pc := 178) d_law_178 rfl 3 rfl ?_
        refine y_aload_n cx (pc := 179) d_law_179 rfl 1 rfl ?_
        refine y_iload cx (pc := 180) d_law_180 5 rfl ?_
        refine y_iconst cx (pc := 182) ic_1 d_law_182 ?_
        refine y_iadd cx (pc := 183) d_law_183 ?_
        obtain ⟨h0, h⟩ := h
        refine y_sld cx (pc := 184) hX h0 d_law_184 ?_
        refine y_aload_n cx (pc := 185) d_law_185 rfl 1 rfl ?_
        refine y_iload cx (pc := 186) d_law_186 5 rfl ?_
        refine y_iconst cx (pc := 188) ic_2 d_law_188 ?_
        refine y_iadd cx (pc := 189) d_law_189 ?_
        obtain ⟨h0, h⟩ := h
        refine y_sld cx (pc := 190) hX h0 d_law_190 ?_
        refine y_vV cx (pc := 191) (st := []) [.int (xs (v4 + 1).toNatClampNeg), .int (xs (v4 + 2).toNatClampNeg)] (c_m_word cx.fl Δ (xs (v4 + 1).toNatClampNeg) (xs (v4 + 2).toNatClampNeg) _ _ h) mv_m_word kw_900 (oc_58 Δ) ck_Md rfl (le_b rfl) (le_b rfl) (le_b rfl) (by show (k + 1) + 0 ≤ 603072; omega) (by show (n + 6) + 0 ≤ 7207018; omega) d_law_191 (fun σ8 h => ?_) (fun x σ8 h => yt_no h)
        refine y_aload_n cx (pc := 194) d_law_194 rfl 3 rfl ?_
        refine y_vI cx (pc := 195) (st := []) [] (c_m_thrown cx.fl Δ _ _ h) mv_m_thrown kw_884 (oc_58 Δ) ck_Md rfl (le_b rfl) (le_b rfl) (le_b rfl) (by show (k + 1) + 0 ≤ 603072; omega) (by show (n + 6) + 0 ≤ 7207018; omega) d_law_195 (fun x9 σ10 h => ?_) (fun x σ10 h => yt_no h)
        refine y_iload cx (pc := 198) d_law_198 0 rfl ?_
        refine y_icmp_eq cx (pc := 200) (tgt := 205) d_law_200 (by decide) (fun hc => ?_) (fun hc => ?_)
        · replace h := h.1 hc
          refine y_goto cx (pc := 205) (tgt := 820) d_law_205 (by decide) ?_
          refine y_wide (k := (k + 1)) (n := (n + 6)) (k' := (k + 2)) (n' := (n + 12)) (by omega) (by omega) ?_
          refine y_sub [1, 2, 3, 4, 5] rfl ?_
          exact b_law_820 cx hX hk hn hK23 v4 σ10 h
        · replace h := h.2 hc
          refine y_iconst cx (pc := 203) ic_0 d_law_203 ?_
          exact y_zret cx (pc := 204) rfl bz_0 d_law_204 (by show (k + 1) ≤ 603072; omega) (by show (n + 6) ≤ 7207018; omega) h
      replace h := h.2 hc1
      by_cases hc2 : ((xs v4.toNatClampNeg) &&& 15) = 2
      · replace h := h.1 hc2
        refine y_tIn cx (pc := 39) (tgt := 208) (c := 2) d_law_39 hc2 (by decide) (by decide) rfl (by decide) ?_
        refine y_aload_n cx (pc := 208) d_law_208 rfl 1 rfl ?_
        refine y_aload_n cx (pc := 209) d_law_209 rfl 0 rfl ?_
        refine y_iload cx (pc := 210) d_law_210 4 rfl ?_
        refine y_iconst cx (pc := 212) ic_1 d_law_212 ?_
        refine y_iadd cx (pc := 213) d_law_213 ?_
        obtain ⟨h0, h⟩ := h
        refine y_sld cx (pc := 214) hX h0 d_law_214 ?_
        refine y_i2l cx (pc := 215) d_law_215 ?_
        refine y_bipush cx (pc := 216) bp_32 d_law_216 ?_
        refine y_lshl cx (pc := 218) d_law_218 ?_
        refine y_aload_n cx (pc := 219) d_law_219 rfl 0 rfl ?_
        refine y_iload cx (pc := 220) d_law_220 4 rfl ?_
        refine y_iconst cx (pc := 222) ic_2 d_law_222 ?_
        refine y_iadd cx (pc := 223) d_law_223 ?_
        obtain ⟨h0, h⟩ := h
        refine y_sld cx (pc := 224) hX h0 d_law_224 ?_
        refine y_i2l cx (pc := 225) d_law_225 ?_
        refine y_ldc2 cx (pc := 226) kw_1142 d_law_226 ?_
        refine y_land cx (pc := 229) d_law_229 ?_
        refine y_lor cx (pc := 230) d_law_230 ?_
        refine y_aload_n cx (pc := 231) d_law_231 rfl 0 rfl ?_
        refine y_iload cx (pc := 232) d_law_232 4 rfl ?_
        refine y_iconst cx (pc := 234) ic_3 d_law_234 ?_
        refine y_iadd cx (pc := 235) d_law_235 ?_
        obtain ⟨h0, h⟩ := h
        refine y_sld cx (pc := 236) hX h0 d_law_236 ?_
        refine y_aload_n cx (pc := 237) d_law_237 rfl 3 rfl ?_
        refine y_sI cx (pc := 238) (st := []) [.ref (Δ.1 0), .long ((((xs (v4 + 1).toNatClampNeg).toInt64) <<< ((32 : Int32).toInt64 &&& 63)) ||| (((xs (v4 + 2).toNatClampNeg).toInt64) &&& 4294967295)), .int (xs (v4 + 3).toNatClampNeg), .ref (Δ.1 87)] (c_l_feed cx.fl Δ ((((xs (v4 + 1).toNatClampNeg).toInt64) <<< ((32 : Int32).toInt64 &&& 63)) ||| (((xs (v4 + 2).toNatClampNeg).toInt64) &&& 4294967295)) (xs (v4 + 3).toNatClampNeg) _ _ h) mv_l_feed kw_549 rfl (le_b rfl) (le_b rfl) (le_b rfl) (by show k + 2 ≤ 603072; omega) (by show n + 12 ≤ 7207018; omega) d_law_238 (fun x11 σ12 h => ?_) (fun x σ12 h => yt_no h)
        refine y_istore (lv' := [(5, .int x11), (0, .ref b), (1, .ref (Δ.1 0)), (2, .ref (Δ.1 58)), (3, .ref (Δ.1 87)), (4, .int v4)]) cx (pc := 241) d_law_241 (le_b rfl) rfl ?_
        refine y_aload_n cx (pc := 243) d_law_243 rfl 3 rfl ?_
        refine y_aload_n cx (pc := 244) d_law_244 rfl 1 rfl ?_
        refine y_iload cx (pc := 245) d_law_245 5 rfl ?_
        refine y_iconst cx (pc := 247) ic_1 d_law_247 ?_
        refine y_iadd cx (pc := 248) d_law_248 ?_
        obtain ⟨h0, h⟩ := h
        refine y_sld cx (pc := 249) hX h0 d_law_249 ?_
        refine y_i2l cx (pc := 250) d_law_250 ?_
        refine y_bipush cx (pc := 251) bp_32 d_law_251 ?_
        refine y_lshl cx (pc := 253) d_law_253 ?_
        refine y_aload_n cx (pc := 254) d_law_254 rfl 1 rfl ?_
        refine y_iload cx (pc := 255) d_law_255 5 rfl ?_
        refine y_iconst cx (pc := 257) ic_2 d_law_257 ?_
        refine y_iadd cx (pc := 258) d_law_258 ?_
        obtain ⟨h0, h⟩ := h
        refine y_sld cx (pc := 259) hX h0 d_law_259 ?_
        refine y_i2l cx (pc := 260) d_law_260 ?_
        refine y_ldc2 cx (pc := 261) kw_1142 d_law_261 ?_
        refine y_land cx (pc := 264) d_law_264 ?_
        refine y_lor cx (pc := 265) d_law_265 ?_
        refine y_aload_n cx (pc := 266) d_law_266 rfl 1 rfl ?_
        refine y_iload cx (pc := 267) d_law_267 5 rfl ?_
        refine y_iconst cx (pc := 269) ic_3 d_law_269 ?_
        refine y_iadd cx (pc := 270) d_law_270 ?_
        obtain ⟨h0, h⟩ := h
        refine y_sld cx (pc := 271) hX h0 d_law_271 ?_
        refine y_vI cx (pc := 272) (st := []) [.long ((((xs (v4 + 1).toNatClampNeg).toInt64) <<< ((32 : Int32).toInt64 &&& 63)) ||| (((xs (v4 + 2).toNatClampNeg).toInt64) &&& 4294967295)), .int (xs (v4 + 3).toNatClampNeg)] (c_m_feed cx.fl Δ ((((xs (v4 + 1).toNatClampNeg).toInt64) <<< ((32 : Int32).toInt64 &&& 63)) ||| (((xs (v4 + 2).toNatClampNeg).toInt64) &&& 4294967295)) (xs (v4 + 3).toNatClampNeg) _ _ h) mv_m_feed kw_905 (oc_58 Δ) ck_Md rfl (le_b rfl) (le_b rfl) (le_b rfl) (by show (k + 2) + 0 ≤ 603072; omega) (by show (n + 12) + 0 ≤ 7207018; omega) d_law_272 (fun x13 σ14 h => ?_) (fun x σ14 h => yt_no h)
        refine y_istore (lv' := [(6, .int x13), (5, .int x11), (0, .ref b), (1, .ref (Δ.1 0)), (2, .ref (Δ.1 58)), (3, .ref (Δ.1 87)), (4, .int v4)]) cx (pc := 275) d_law_275 (le_b rfl) rfl ?_
        refine y_aload_n cx (pc := 277) d_law_277 rfl 4 rfl ?_
        refine y_vI cx (pc := 278) (st := []) [] (c_m_thrown cx.fl Δ _ _ h) mv_m_thrown kw_884 (oc_58 Δ) ck_Md rfl (le_b rfl) (le_b rfl) (le_b rfl) (by show (k + 2) + 0 ≤ 603072; omega) (by show (n + 12) + 0 ≤ 7207018; omega) d_law_278 (fun x15 σ16 h => ?_) (fun x σ16 h => yt_no h)
        refine y_iload cx (pc := 281) d_law_281 1 rfl ?_
        refine y_icmp_eq cx (pc := 283) (tgt := 288) d_law_283 (by decide) (fun hc => ?_) (fun hc => ?_)
        · replace h := h.1 hc
          refine y_iload cx (pc := 288) d_law_288 1 rfl ?_
          refine y_if_ne cx (pc := 290) (tgt := 305) d_law_290 (by decide) (fun hc => ?_) (fun hc => ?_)
          · replace h := h.1 hc
            refine y_sub [2, 3, 4, 5, 6] rfl ?_
            exact b_law_305 cx hX hk hn hK23 v4 σ16 h
          · replace h := h.2 hc
            refine y_aload_n cx (pc := 293) d_law_293 rfl 5 rfl ?_
            refine y_iconst cx (pc := 294) ic_0 d_law_294 ?_
            refine y_outld cx (pc := 295) d_law_295 ?_
            refine y_iload cx (pc := 296) d_law_296 0 rfl ?_
            refine y_i2l cx (pc := 298) d_law_298 ?_
            refine y_lcmp_eq cx (pc := 299) (tgt := 305) d_law_299 d_law_300 (by decide) (fun hc => ?_) (fun hc => ?_)
            · replace h := h.1 hc
              refine y_sub [2, 3, 4, 5, 6] rfl ?_
              exact b_law_305 cx hX hk hn hK23 v4 σ16 h
            · replace h := h.2 hc
              refine y_iconst cx (pc := 303) ic_0 d_law_303 ?_
              exact y_zret cx (pc := 304) rfl bz_0 d_law_304 (by show (k + 2) ≤ 603072; omega) (by show (n + 12) ≤ 7207018; omega) h
        · replace h := h.2 hc
          refine y_iconst cx (pc := 286) ic_0 d_law_286 ?_
          exact y_zret cx (pc := 287) rfl bz_0 d_law_287 (by show (k + 2) ≤ 603072; omega) (by show (n + 12) ≤ 7207018; omega) h
      replace h := h.2 hc2
      by_cases hc3 : ((xs v4.toNatClampNeg) &&& 15) = 3
      · replace h := h.1 hc3
        refine y_tIn cx (pc := 39) (tgt := 308) (c := 3) d_law_39 hc3 (by decide) (by decide) rfl (by decide) ?_
        refine y_aload_n cx (pc := 308) d_law_308 rfl 1 rfl ?_
        refine y_vI cx (pc := 309) (st := []) [] (c_x_read cx.fl Δ _ _ h) mv_x_read kw_19 (oc_0 Δ) ck_GM rfl (le_b rfl) (le_b rfl) (le_b rfl) (by show k + 0 ≤ 603072; omega) (by show n + 0 ≤ 7207018; omega) d_law_309 (fun x17 σ18 h => ?_) (fun x σ18 h => yt_no h)
        refine y_aload_n cx (pc := 312) d_law_312 rfl 2 rfl ?_
        refine y_vI cx (pc := 313) (st := [.int x17]) [] (c_m_read cx.fl Δ _ _ h) mv_m_read kw_911 (oc_58 Δ) ck_Md rfl (le_b rfl) (le_b rfl) (le_b rfl) (by show k + 0 ≤ 603072; omega) (by show n + 0 ≤ 7207018; omega) d_law_313 (fun x19 σ20 h => ?_) (fun x σ20 h => yt_no h)
        refine y_icmp_eq cx (pc := 316) (tgt := 820) d_law_316 (by decide) (fun hc => ?_) (fun hc => ?_)
        · replace h := h.1 hc
          refine y_wide (k := k) (n := n) (k' := (k + 2)) (n' := (n + 12)) (by omega) (by omega) ?_
          exact b_law_820 cx hX hk hn hK23 v4 σ20 h
        · replace h := h.2 hc
          refine y_iconst cx (pc := 319) ic_0 d_law_319 ?_
          exact y_zret cx (pc := 320) rfl bz_0 d_law_320 (by show k ≤ 603072; omega) (by show n ≤ 7207018; omega) h
      replace h := h.2 hc3
      by_cases hc4 : ((xs v4.toNatClampNeg) &&& 15) = 4
      · replace h := h.1 hc4
        refine y_tIn cx (pc := 39) (tgt := 321) (c := 4) d_law_39 hc4 (by decide) (by decide) rfl (by decide) ?_
        refine y_aload_n cx (pc := 321) d_law_321 rfl 1 rfl ?_
        refine y_vI cx (pc := 322) (st := []) [] (c_x_fault cx.fl Δ _ _ h) mv_x_fault kw_173 (oc_0 Δ) ck_GM rfl (le_b rfl) (le_b rfl) (le_b rfl) (by show k + 0 ≤ 603072; omega) (by show n + 0 ≤ 7207018; omega) d_law_322 (fun x21 σ22 h => ?_) (fun x σ22 h => yt_no h)
        refine y_aload_n cx (pc := 325) d_law_325 rfl 2 rfl ?_
        refine y_vI cx (pc := 326) (st := [.int x21]) [] (c_m_fault cx.fl Δ _ _ h) mv_m_fault kw_967 (oc_58 Δ) ck_Md rfl (le_b rfl) (le_b rfl) (le_b rfl) (by show k + 0 ≤ 603072; omega) (by show n + 0 ≤ 7207018; omega) d_law_326 (fun x23 σ24 h => ?_) (fun x σ24 h => yt_no h)
        refine y_icmp_eq cx (pc := 329) (tgt := 820) d_law_329 (by decide) (fun hc => ?_) (fun hc => ?_)
        · replace h := h.1 hc
          refine y_wide (k := k) (n := n) (k' := (k + 2)) (n' := (n + 12)) (by omega) (by omega) ?_
          exact b_law_820 cx hX hk hn hK23 v4 σ24 h
        · replace h := h.2 hc
          refine y_iconst cx (pc := 332) ic_0 d_law_332 ?_
          exact y_zret cx (pc := 333) rfl bz_0 d_law_333 (by show k ≤ 603072; omega) (by show n ≤ 7207018; omega) h
      replace h := h.2 hc4
      by_cases hc5 : ((xs v4.toNatClampNeg) &&& 15) = 5
      · replace h := h.1 hc5
        refine y_tIn cx (pc := 39) (tgt := 334) (c := 5) d_law_39 hc5 (by decide) (by decide) rfl (by decide) ?_
        refine y_aload_n cx (pc := 334) d_law_334 rfl 1 rfl ?_
        refine y_aload_n cx (pc := 335) d_law_335 rfl 0 rfl ?_
        refine y_iload cx (pc := 336) d_law_336 4 rfl ?_
        refine y_iconst cx (pc := 338) ic_1 d_law_338 ?_
        refine y_iadd cx (pc := 339) d_law_339 ?_
        obtain ⟨h0, h⟩ := h
        refine y_sld cx (pc := 340) hX h0 d_law_340 ?_
        refine y_aload_n cx (pc := 341) d_law_341 rfl 0 rfl ?_
        refine y_iload cx (pc := 342) d_law_342 4 rfl ?_
        refine y_iconst cx (pc := 344) ic_2 d_law_344 ?_
        refine y_iadd cx (pc := 345) d_law_345 ?_
        obtain ⟨h0, h⟩ := h
        refine y_sld cx (pc := 346) hX h0 d_law_346 ?_
        refine y_aload_n cx (pc := 347) d_law_347 rfl 3 rfl ?_
        refine y_sI cx (pc := 348) (st := []) [.ref (Δ.1 0), .int (xs (v4 + 1).toNatClampNeg), .int (xs (v4 + 2).toNatClampNeg), .ref (Δ.1 87)] (c_l_statement cx.fl Δ (xs (v4 + 1).toNatClampNeg) (xs (v4 + 2).toNatClampNeg) _ _ h) mv_l_statement kw_595 rfl (le_b rfl) (le_b rfl) (le_b rfl) (by show k + 2 ≤ 603072; omega) (by show n + 12 ≤ 7207018; omega) d_law_348 (fun x25 σ26 h => ?_) (fun x σ26 h => yt_no h)
        refine y_istore (lv' := [(5, .int x25), (0, .ref b), (1, .ref (Δ.1 0)), (2, .ref (Δ.1 58)), (3, .ref (Δ.1 87)), (4, .int v4)]) cx (pc := 351) d_law_351 (le_b rfl) rfl ?_
        refine y_aload_n cx (pc := 353) d_law_353 rfl 3 rfl ?_
        refine y_aload_n cx (pc := 354) d_law_354 rfl 1 rfl ?_
        refine y_iload cx (pc := 355) d_law_355 5 rfl ?_
        refine y_iconst cx (pc := 357) ic_1 d_law_357 ?_
        refine y_iadd cx (pc := 358) d_law_358 ?_
        obtain ⟨h0, h⟩ := h
        refine y_sld cx (pc := 359) hX h0 d_law_359 ?_
        refine y_aload_n cx (pc := 360) d_law_360 rfl 1 rfl ?_
        refine y_iload cx (pc := 361) d_law_361 5 rfl ?_
        refine y_iconst cx (pc := 363) ic_2 d_law_363 ?_
        refine y_iadd cx (pc := 364) d_law_364 ?_
        obtain ⟨h0, h⟩ := h
        refine y_sld cx (pc := 365) hX h0 d_law_365 ?_
        refine y_vI cx (pc := 366) (st := []) [.int (xs (v4 + 1).toNatClampNeg), .int (xs (v4 + 2).toNatClampNeg)] (c_m_statement cx.fl Δ (xs (v4 + 1).toNatClampNeg) (xs (v4 + 2).toNatClampNeg) _ _ h) mv_m_statement kw_1069 (oc_58 Δ) ck_Md rfl (le_b rfl) (le_b rfl) (le_b rfl) (by show (k + 2) + 0 ≤ 603072; omega) (by show (n + 12) + 0 ≤ 7207018; omega) d_law_366 (fun x27 σ28 h => ?_) (fun x σ28 h => yt_no h)
        refine y_istore (lv' := [(6, .int x27), (5, .int x25), (0, .ref b), (1, .ref (Δ.1 0)), (2, .ref (Δ.1 58)), (3, .ref (Δ.1 87)), (4, .int v4)]) cx (pc := 369) d_law_369 (le_b rfl) rfl ?_
        refine y_aload_n cx (pc := 371) d_law_371 rfl 4 rfl ?_
        refine y_vI cx (pc := 372) (st := []) [] (c_m_thrown cx.fl Δ _ _ h) mv_m_thrown kw_884 (oc_58 Δ) ck_Md rfl (le_b rfl) (le_b rfl) (le_b rfl) (by show (k + 2) + 0 ≤ 603072; omega) (by show (n + 12) + 0 ≤ 7207018; omega) d_law_372 (fun x29 σ30 h => ?_) (fun x σ30 h => yt_no h)
        refine y_iload cx (pc := 375) d_law_375 1 rfl ?_
        refine y_icmp_eq cx (pc := 377) (tgt := 382) d_law_377 (by decide) (fun hc => ?_) (fun hc => ?_)
        · replace h := h.1 hc
          refine y_iload cx (pc := 382) d_law_382 1 rfl ?_
          refine y_if_ne cx (pc := 384) (tgt := 399) d_law_384 (by decide) (fun hc => ?_) (fun hc => ?_)
          · replace h := h.1 hc
            refine y_sub [2, 3, 4, 5, 6] rfl ?_
            exact b_law_399 cx hX hk hn hK23 v4 σ30 h
          · replace h := h.2 hc
            refine y_aload_n cx (pc := 387) d_law_387 rfl 5 rfl ?_
            refine y_iconst cx (pc := 388) ic_0 d_law_388 ?_
            refine y_outld cx (pc := 389) d_law_389 ?_
            refine y_iload cx (pc := 390) d_law_390 0 rfl ?_
            refine y_i2l cx (pc := 392) d_law_392 ?_
            refine y_lcmp_eq cx (pc := 393) (tgt := 399) d_law_393 d_law_394 (by decide) (fun hc => ?_) (fun hc => ?_)
            · replace h := h.1 hc
              refine y_sub [2, 3, 4, 5, 6] rfl ?_
              exact b_law_399 cx hX hk hn hK23 v4 σ30 h
            · replace h := h.2 hc
              refine y_iconst cx (pc := 397) ic_0 d_law_397 ?_
              exact y_zret cx (pc := 398) rfl bz_0 d_law_398 (by show (k + 2) ≤ 603072; omega) (by show (n + 12) ≤ 7207018; omega) h
        · replace h := h.2 hc
          refine y_iconst cx (pc := 380) ic_0 d_law_380 ?_
          exact y_zret cx (pc := 381) rfl bz_0 d_law_381 (by show (k + 2) ≤ 603072; omega) (by show (n + 12) ≤ 7207018; omega) h
      replace h := h.2 hc5
      by_cases hc6 : ((xs v4.toNatClampNeg) &&& 15) = 6
      · replace h := h.1 hc6
        refine y_tIn cx (pc := 39) (tgt := 402) (c := 6) d_law_39 hc6 (by decide) (by decide) rfl (by decide) ?_
        refine y_aload_n cx (pc := 402) d_law_402 rfl 1 rfl ?_
        refine y_aload_n cx (pc := 403) d_law_403 rfl 0 rfl ?_
        refine y_iload cx (pc := 404) d_law_404 4 rfl ?_
        refine y_iconst cx (pc := 406) ic_1 d_law_406 ?_
        refine y_iadd cx (pc := 407) d_law_407 ?_
        obtain ⟨h0, h⟩ := h
        refine y_sld cx (pc := 408) hX h0 d_law_408 ?_
        refine y_aload_n cx (pc := 409) d_law_409 rfl 3 rfl ?_
        refine y_sI cx (pc := 410) (st := []) [.ref (Δ.1 0), .int (xs (v4 + 1).toNatClampNeg), .ref (Δ.1 87)] (c_l_lower cx.fl Δ (xs (v4 + 1).toNatClampNeg) _ _ h) mv_l_lower kw_607 rfl (le_b rfl) (le_b rfl) (le_b rfl) (by show k + 1 ≤ 603072; omega) (by show n + 6 ≤ 7207018; omega) d_law_410 (fun x31 σ32 h => ?_) (fun x σ32 h => yt_no h)
        refine y_istore (lv' := [(5, .int x31), (0, .ref b), (1, .ref (Δ.1 0)), (2, .ref (Δ.1 58)), (3, .ref (Δ.1 87)), (4, .int v4)]) cx (pc := 413) d_law_413 (le_b rfl) rfl ?_
        refine y_aload_n cx (pc := 415) d_law_415 rfl 3 rfl ?_
        refine y_aload_n cx (pc := 416) d_law_416 rfl 1 rfl ?_
        refine y_iload cx (pc := 417) d_law_417 5 rfl ?_
        refine y_iconst cx (pc := 419) ic_1 d_law_419 ?_
        refine y_iadd cx (pc := 420) d_law_420 ?_
        obtain ⟨h0, h⟩ := h
        refine y_sld cx (pc := 421) hX h0 d_law_421 ?_
        refine y_vI cx (pc := 422) (st := []) [.int (xs (v4 + 1).toNatClampNeg)] (c_m_lower cx.fl Δ (xs (v4 + 1).toNatClampNeg) _ _ h) mv_m_lower kw_971 (oc_58 Δ) ck_Md rfl (le_b rfl) (le_b rfl) (le_b rfl) (by show (k + 1) + 0 ≤ 603072; omega) (by show (n + 6) + 0 ≤ 7207018; omega) d_law_422 (fun x33 σ34 h => ?_) (fun x σ34 h => yt_no h)
        refine y_istore (lv' := [(6, .int x33), (5, .int x31), (0, .ref b), (1, .ref (Δ.1 0)), (2, .ref (Δ.1 58)), (3, .ref (Δ.1 87)), (4, .int v4)]) cx (pc := 425) d_law_425 (le_b rfl) rfl ?_
        refine y_aload_n cx (pc := 427) d_law_427 rfl 4 rfl ?_
        refine y_vI cx (pc := 428) (st := []) [] (c_m_thrown cx.fl Δ _ _ h) mv_m_thrown kw_884 (oc_58 Δ) ck_Md rfl (le_b rfl) (le_b rfl) (le_b rfl) (by show (k + 1) + 0 ≤ 603072; omega) (by show (n + 6) + 0 ≤ 7207018; omega) d_law_428 (fun x35 σ36 h => ?_) (fun x σ36 h => yt_no h)
        refine y_iload cx (pc := 431) d_law_431 1 rfl ?_
        refine y_icmp_eq cx (pc := 433) (tgt := 438) d_law_433 (by decide) (fun hc => ?_) (fun hc => ?_)
        · replace h := h.1 hc
          refine y_iload cx (pc := 438) d_law_438 1 rfl ?_
          refine y_if_ne cx (pc := 440) (tgt := 455) d_law_440 (by decide) (fun hc => ?_) (fun hc => ?_)
          · replace h := h.1 hc
            refine y_sub [2, 3, 4, 5, 6] rfl ?_
            exact b_law_455 cx hX hk hn hK23 v4 σ36 h
          · replace h := h.2 hc
            refine y_aload_n cx (pc := 443) d_law_443 rfl 5 rfl ?_
            refine y_iconst cx (pc := 444) ic_0 d_law_444 ?_
            refine y_outld cx (pc := 445) d_law_445 ?_
            refine y_iload cx (pc := 446) d_law_446 0 rfl ?_
            refine y_i2l cx (pc := 448) d_law_448 ?_
            refine y_lcmp_eq cx (pc := 449) (tgt := 455) d_law_449 d_law_450 (by decide) (fun hc => ?_) (fun hc => ?_)
            · replace h := h.1 hc
              refine y_sub [2, 3, 4, 5, 6] rfl ?_
              exact b_law_455 cx hX hk hn hK23 v4 σ36 h
            · replace h := h.2 hc
              refine y_iconst cx (pc := 453) ic_0 d_law_453 ?_
              exact y_zret cx (pc := 454) rfl bz_0 d_law_454 (by show (k + 1) ≤ 603072; omega) (by show (n + 6) ≤ 7207018; omega) h
        · replace h := h.2 hc
          refine y_iconst cx (pc := 436) ic_0 d_law_436 ?_
          exact y_zret cx (pc := 437) rfl bz_0 d_law_437 (by show (k + 1) ≤ 603072; omega) (by show (n + 6) ≤ 7207018; omega) h
      replace h := h.2 hc6
      by_cases hc7 : ((xs v4.toNatClampNeg) &&& 15) = 7
      · replace h := h.1 hc7
        refine y_tIn cx (pc := 39) (tgt := 458) (c := 7) d_law_39 hc7 (by decide) (by decide) rfl (by decide) ?_
        refine y_aload_n cx (pc := 458) d_law_458 rfl 1 rfl ?_
        refine y_vI cx (pc := 459) (st := []) [] (c_x_trim cx.fl Δ _ _ h) mv_x_trim kw_177 (oc_0 Δ) ck_GM rfl (le_b rfl) (le_b rfl) (le_b rfl) (by show k + 0 ≤ 603072; omega) (by show n + 0 ≤ 7207018; omega) d_law_459 (fun x37 σ38 h => ?_) (fun x σ38 h => yt_no h)
        refine y_aload_n cx (pc := 462) d_law_462 rfl 2 rfl ?_
        refine y_vI cx (pc := 463) (st := [.int x37]) [] (c_m_trim cx.fl Δ _ _ h) mv_m_trim kw_1048 (oc_58 Δ) ck_Md rfl (le_b rfl) (le_b rfl) (le_b rfl) (by show k + 0 ≤ 603072; omega) (by show n + 0 ≤ 7207018; omega) d_law_463 (fun x39 σ40 h => ?_) (fun x σ40 h => yt_no h)
        refine y_icmp_eq cx (pc := 466) (tgt := 820) d_law_466 (by decide) (fun hc => ?_) (fun hc => ?_)
        · replace h := h.1 hc
          refine y_wide (k := k) (n := n) (k' := (k + 2)) (n' := (n + 12)) (by omega) (by omega) ?_
          exact b_law_820 cx hX hk hn hK23 v4 σ40 h
        · replace h := h.2 hc
          refine y_iconst cx (pc := 469) ic_0 d_law_469 ?_
          exact y_zret cx (pc := 470) rfl bz_0 d_law_470 (by show k ≤ 603072; omega) (by show n ≤ 7207018; omega) h
      replace h := h.2 hc7
      by_cases hc8 : ((xs v4.toNatClampNeg) &&& 15) = 8
      · replace h := h.1 hc8
        refine y_tIn cx (pc := 39) (tgt := 471) (c := 8) d_law_39 hc8 (by decide) (by decide) rfl (by decide) ?_
        refine y_aload_n cx (pc := 471) d_law_471 rfl 1 rfl ?_
        refine y_aload_n cx (pc := 472) d_law_472 rfl 0 rfl ?_
        refine y_iload cx (pc := 473) d_law_473 4 rfl ?_
        refine y_iconst cx (pc := 475) ic_1 d_law_475 ?_
        refine y_iadd cx (pc := 476) d_law_476 ?_
        obtain ⟨h0, h⟩ := h
        refine y_sld cx (pc := 477) hX h0 d_law_477 ?_
        refine y_aload_n cx (pc := 478) d_law_478 rfl 0 rfl ?_
        refine y_iload cx (pc := 479) d_law_479 4 rfl ?_
        refine y_iconst cx (pc := 481) ic_2 d_law_481 ?_
        refine y_iadd cx (pc := 482) d_law_482 ?_
        obtain ⟨h0, h⟩ := h
        refine y_sld cx (pc := 483) hX h0 d_law_483 ?_
        refine y_aload_n cx (pc := 484) d_law_484 rfl 3 rfl ?_
        refine y_sI cx (pc := 485) (st := []) [.ref (Δ.1 0), .int (xs (v4 + 1).toNatClampNeg), .int (xs (v4 + 2).toNatClampNeg), .ref (Δ.1 87)] (c_l_step cx.fl Δ (xs (v4 + 1).toNatClampNeg) (xs (v4 + 2).toNatClampNeg) _ _ h) mv_l_step kw_687 rfl (le_b rfl) (le_b rfl) (le_b rfl) (by show k + 2 ≤ 603072; omega) (by show n + 12 ≤ 7207018; omega) d_law_485 (fun x41 σ42 h => ?_) (fun x σ42 h => yt_no h)
        refine y_istore (lv' := [(5, .int x41), (0, .ref b), (1, .ref (Δ.1 0)), (2, .ref (Δ.1 58)), (3, .ref (Δ.1 87)), (4, .int v4)]) cx (pc := 488) d_law_488 (le_b rfl) rfl ?_
        refine y_aload_n cx (pc := 490) d_law_490 rfl 3 rfl ?_
        refine y_aload_n cx (pc := 491) d_law_491 rfl 1 rfl ?_
        refine y_iload cx (pc := 492) d_law_492 5 rfl ?_
        refine y_iconst cx (pc := 494) ic_1 d_law_494 ?_
        refine y_iadd cx (pc := 495) d_law_495 ?_
        obtain ⟨h0, h⟩ := h
        refine y_sld cx (pc := 496) hX h0 d_law_496 ?_
        refine y_aload_n cx (pc := 497) d_law_497 rfl 1 rfl ?_
        refine y_iload cx (pc := 498) d_law_498 5 rfl ?_
        refine y_iconst cx (pc := 500) ic_2 d_law_500 ?_
        refine y_iadd cx (pc := 501) d_law_501 ?_
        obtain ⟨h0, h⟩ := h
        refine y_sld cx (pc := 502) hX h0 d_law_502 ?_
        refine y_vI cx (pc := 503) (st := []) [.int (xs (v4 + 1).toNatClampNeg), .int (xs (v4 + 2).toNatClampNeg)] (c_m_step cx.fl Δ (xs (v4 + 1).toNatClampNeg) (xs (v4 + 2).toNatClampNeg) _ _ h) mv_m_step kw_1064 (oc_58 Δ) ck_Md rfl (le_b rfl) (le_b rfl) (le_b rfl) (by show (k + 2) + 0 ≤ 603072; omega) (by show (n + 12) + 0 ≤ 7207018; omega) d_law_503 (fun x43 σ44 h => ?_) (fun x σ44 h => yt_no h)
        refine y_istore (lv' := [(6, .int x43), (5, .int x41), (0, .ref b), (1, .ref (Δ.1 0)), (2, .ref (Δ.1 58)), (3, .ref (Δ.1 87)), (4, .int v4)]) cx (pc := 506) d_law_506 (le_b rfl) rfl ?_
        refine y_aload_n cx (pc := 508) d_law_508 rfl 4 rfl ?_
        refine y_vI cx (pc := 509) (st := []) [] (c_m_thrown cx.fl Δ _ _ h) mv_m_thrown kw_884 (oc_58 Δ) ck_Md rfl (le_b rfl) (le_b rfl) (le_b rfl) (by show (k + 2) + 0 ≤ 603072; omega) (by show (n + 12) + 0 ≤ 7207018; omega) d_law_509 (fun x45 σ46 h => ?_) (fun x σ46 h => yt_no h)
        refine y_iload cx (pc := 512) d_law_512 1 rfl ?_
        refine y_icmp_eq cx (pc := 514) (tgt := 519) d_law_514 (by decide) (fun hc => ?_) (fun hc => ?_)
        · replace h := h.1 hc
          refine y_iload cx (pc := 519) d_law_519 1 rfl ?_
          refine y_if_ne cx (pc := 521) (tgt := 536) d_law_521 (by decide) (fun hc => ?_) (fun hc => ?_)
          · replace h := h.1 hc
            refine y_sub [2, 3, 4, 5, 6] rfl ?_
            exact b_law_536 cx hX hk hn hK23 v4 σ46 h
          · replace h := h.2 hc
            refine y_aload_n cx (pc := 524) d_law_524 rfl 5 rfl ?_
            refine y_iconst cx (pc := 525) ic_0 d_law_525 ?_
            refine y_outld cx (pc := 526) d_law_526 ?_
            refine y_iload cx (pc := 527) d_law_527 0 rfl ?_
            refine y_i2l cx (pc := 529) d_law_529 ?_
            refine y_lcmp_eq cx (pc := 530) (tgt := 536) d_law_530 d_law_531 (by decide) (fun hc => ?_) (fun hc => ?_)
            · replace h := h.1 hc
              refine y_sub [2, 3, 4, 5, 6] rfl ?_
              exact b_law_536 cx hX hk hn hK23 v4 σ46 h
            · replace h := h.2 hc
              refine y_iconst cx (pc := 534) ic_0 d_law_534 ?_
              exact y_zret cx (pc := 535) rfl bz_0 d_law_535 (by show (k + 2) ≤ 603072; omega) (by show (n + 12) ≤ 7207018; omega) h
        · replace h := h.2 hc
          refine y_iconst cx (pc := 517) ic_0 d_law_517 ?_
          exact y_zret cx (pc := 518) rfl bz_0 d_law_518 (by show (k + 2) ≤ 603072; omega) (by show (n + 12) ≤ 7207018; omega) h
      replace h := h.2 hc8
      by_cases hc9 : ((xs v4.toNatClampNeg) &&& 15) = 9
      · replace h := h.1 hc9
        refine y_tIn cx (pc := 39) (tgt := 539) (c := 9) d_law_39 hc9 (by decide) (by decide) rfl (by decide) ?_
        refine y_aload_n cx (pc := 539) d_law_539 rfl 1 rfl ?_
        refine y_vI cx (pc := 540) (st := []) [] (c_x_tell_ cx.fl Δ _ _ h) mv_x_tell_ kw_196 (oc_0 Δ) ck_GM rfl (le_b rfl) (le_b rfl) (le_b rfl) (by show k + 0 ≤ 603072; omega) (by show n + 0 ≤ 7207018; omega) d_law_540 (fun x47 σ48 h => ?_) (fun x σ48 h => yt_no h)
        refine y_aload_n cx (pc := 543) d_law_543 rfl 2 rfl ?_
        refine y_vI cx (pc := 544) (st := [.int x47]) [] (c_m_tell cx.fl Δ _ _ h) mv_m_tell kw_1074 (oc_58 Δ) ck_Md rfl (le_b rfl) (le_b rfl) (le_b rfl) (by show k + 0 ≤ 603072; omega) (by show n + 0 ≤ 7207018; omega) d_law_544 (fun x49 σ50 h => ?_) (fun x σ50 h => yt_no h)
        refine y_icmp_eq cx (pc := 547) (tgt := 820) d_law_547 (by decide) (fun hc => ?_) (fun hc => ?_)
        · replace h := h.1 hc
          refine y_wide (k := k) (n := n) (k' := (k + 2)) (n' := (n + 12)) (by omega) (by omega) ?_
          exact b_law_820 cx hX hk hn hK23 v4 σ50 h
        · replace h := h.2 hc
          refine y_iconst cx (pc := 550) ic_0 d_law_550 ?_
          exact y_zret cx (pc := 551) rfl bz_0 d_law_551 (by show k ≤ 603072; omega) (by show n ≤ 7207018; omega) h
      replace h := h.2 hc9
      by_cases hc10 : ((xs v4.toNatClampNeg) &&& 15) = 10
      · replace h := h.1 hc10
        refine y_tIn cx (pc := 39) (tgt := 552) (c := 10) d_law_39 hc10 (by decide) (by decide) rfl (by decide) ?_
        refine y_aload_n cx (pc := 552) d_law_552 rfl 1 rfl ?_
        refine y_aload_n cx (pc := 553) d_law_553 rfl 3 rfl ?_
        refine y_sI cx (pc := 554) (st := []) [.ref (Δ.1 0), .ref (Δ.1 87)] (c_l_run cx.fl Δ _ _ h) mv_l_run kw_695 rfl (le_b rfl) (le_b rfl) (le_b rfl) (by show k + 1 ≤ 603072; omega) (by show n + 6 ≤ 7207018; omega) d_law_554 (fun x51 σ52 h => ?_) (fun x σ52 h => yt_no h)
        refine y_istore (lv' := [(5, .int x51), (0, .ref b), (1, .ref (Δ.1 0)), (2, .ref (Δ.1 58)), (3, .ref (Δ.1 87)), (4, .int v4)]) cx (pc := 557) d_law_557 (le_b rfl) rfl ?_
        refine y_aload_n cx (pc := 559) d_law_559 rfl 3 rfl ?_
        refine y_vI cx (pc := 560) (st := []) [] (c_m_run cx.fl Δ _ _ h) mv_m_run kw_1110 (oc_58 Δ) ck_Md rfl (le_b rfl) (le_b rfl) (le_b rfl) (by show (k + 1) + 0 ≤ 603072; omega) (by show (n + 6) + 0 ≤ 7207018; omega) d_law_560 (fun x53 σ54 h => ?_) (fun x σ54 h => yt_no h)
        refine y_istore (lv' := [(6, .int x53), (5, .int x51), (0, .ref b), (1, .ref (Δ.1 0)), (2, .ref (Δ.1 58)), (3, .ref (Δ.1 87)), (4, .int v4)]) cx (pc := 563) d_law_563 (le_b rfl) rfl ?_
        refine y_aload_n cx (pc := 565) d_law_565 rfl 4 rfl ?_
        refine y_vI cx (pc := 566) (st := []) [] (c_m_thrown cx.fl Δ _ _ h) mv_m_thrown kw_884 (oc_58 Δ) ck_Md rfl (le_b rfl) (le_b rfl) (le_b rfl) (by show (k + 1) + 0 ≤ 603072; omega) (by show (n + 6) + 0 ≤ 7207018; omega) d_law_566 (fun x55 σ56 h => ?_) (fun x σ56 h => yt_no h)
        refine y_iload cx (pc := 569) d_law_569 1 rfl ?_
        refine y_icmp_eq cx (pc := 571) (tgt := 576) d_law_571 (by decide) (fun hc => ?_) (fun hc => ?_)
        · replace h := h.1 hc
          refine y_iload cx (pc := 576) d_law_576 1 rfl ?_
          refine y_if_ne cx (pc := 578) (tgt := 593) d_law_578 (by decide) (fun hc => ?_) (fun hc => ?_)
          · replace h := h.1 hc
            refine y_sub [2, 3, 4, 5, 6] rfl ?_
            exact b_law_593 cx hX hk hn hK23 v4 σ56 h
          · replace h := h.2 hc
            refine y_aload_n cx (pc := 581) d_law_581 rfl 5 rfl ?_
            refine y_iconst cx (pc := 582) ic_0 d_law_582 ?_
            refine y_outld cx (pc := 583) d_law_583 ?_
            refine y_iload cx (pc := 584) d_law_584 0 rfl ?_
            refine y_i2l cx (pc := 586) d_law_586 ?_
            refine y_lcmp_eq cx (pc := 587) (tgt := 593) d_law_587 d_law_588 (by decide) (fun hc => ?_) (fun hc => ?_)
            · replace h := h.1 hc
              refine y_sub [2, 3, 4, 5, 6] rfl ?_
              exact b_law_593 cx hX hk hn hK23 v4 σ56 h
            · replace h := h.2 hc
              refine y_iconst cx (pc := 591) ic_0 d_law_591 ?_
              exact y_zret cx (pc := 592) rfl bz_0 d_law_592 (by show (k + 1) ≤ 603072; omega) (by show (n + 6) ≤ 7207018; omega) h
        · replace h := h.2 hc
          refine y_iconst cx (pc := 574) ic_0 d_law_574 ?_
          exact y_zret cx (pc := 575) rfl bz_0 d_law_575 (by show (k + 1) ≤ 603072; omega) (by show (n + 6) ≤ 7207018; omega) h
      replace h := h.2 hc10
      by_cases hc11 : ((xs v4.toNatClampNeg) &&& 15) = 11
      · replace h := h.1 hc11
        refine y_tIn cx (pc := 39) (tgt := 596) (c := 11) d_law_39 hc11 (by decide) (by decide) rfl (by decide) ?_
        refine y_aload_n cx (pc := 596) d_law_596 rfl 1 rfl ?_
        refine y_aload_n cx (pc := 597) d_law_597 rfl 0 rfl ?_
        refine y_iload cx (pc := 598) d_law_598 4 rfl ?_
        refine y_iconst cx (pc := 600) ic_1 d_law_600 ?_
        refine y_iadd cx (pc := 601) d_law_601 ?_
        obtain ⟨h0, h⟩ := h
        refine y_sld cx (pc := 602) hX h0 d_law_602 ?_
        refine y_aload_n cx (pc := 603) d_law_603 rfl 3 rfl ?_
        refine y_sI cx (pc := 604) (st := []) [.ref (Δ.1 0), .int (xs (v4 + 1).toNatClampNeg), .ref (Δ.1 87)] (c_l_left cx.fl Δ (xs (v4 + 1).toNatClampNeg) _ _ h) mv_l_left kw_706 rfl (le_b rfl) (le_b rfl) (le_b rfl) (by show k + 1 ≤ 603072; omega) (by show n + 6 ≤ 7207018; omega) d_law_604 (fun x57 σ58 h => ?_) (fun x σ58 h => yt_no h)
        refine y_istore (lv' := [(5, .int x57), (0, .ref b), (1, .ref (Δ.1 0)), (2, .ref (Δ.1 58)), (3, .ref (Δ.1 87)), (4, .int v4)]) cx (pc := 607) d_law_607 (le_b rfl) rfl ?_
        refine y_aload_n cx (pc := 609) d_law_609 rfl 3 rfl ?_
        refine y_aload_n cx (pc := 610) d_law_610 rfl 1 rfl ?_
        refine y_iload cx (pc := 611) d_law_611 5 rfl ?_
        refine y_iconst cx (pc := 613) ic_1 d_law_613 ?_
        refine y_iadd cx (pc := 614) d_law_614 ?_
        obtain ⟨h0, h⟩ := h
        refine y_sld cx (pc := 615) hX h0 d_law_615 ?_
        refine y_vI cx (pc := 616) (st := []) [.int (xs (v4 + 1).toNatClampNeg)] (c_m_left cx.fl Δ (xs (v4 + 1).toNatClampNeg) _ _ h) mv_m_left kw_1118 (oc_58 Δ) ck_Md rfl (le_b rfl) (le_b rfl) (le_b rfl) (by show (k + 1) + 0 ≤ 603072; omega) (by show (n + 6) + 0 ≤ 7207018; omega) d_law_616 (fun x59 σ60 h => ?_) (fun x σ60 h => yt_no h)
        refine y_istore (lv' := [(6, .int x59), (5, .int x57), (0, .ref b), (1, .ref (Δ.1 0)), (2, .ref (Δ.1 58)), (3, .ref (Δ.1 87)), (4, .int v4)]) cx (pc := 619) d_law_619 (le_b rfl) rfl ?_
        refine y_aload_n cx (pc := 621) d_law_621 rfl 4 rfl ?_
        refine y_vI cx (pc := 622) (st := []) [] (c_m_thrown cx.fl Δ _ _ h) mv_m_thrown kw_884 (oc_58 Δ) ck_Md rfl (le_b rfl) (le_b rfl) (le_b rfl) (by show (k + 1) + 0 ≤ 603072; omega) (by show (n + 6) + 0 ≤ 7207018; omega) d_law_622 (fun x61 σ62 h => ?_) (fun x σ62 h => yt_no h)
        refine y_iload cx (pc := 625) d_law_625 1 rfl ?_
        refine y_icmp_eq cx (pc := 627) (tgt := 632) d_law_627 (by decide) (fun hc => ?_) (fun hc => ?_)
        · replace h := h.1 hc
          refine y_iload cx (pc := 632) d_law_632 1 rfl ?_
          refine y_if_ne cx (pc := 634) (tgt := 649) d_law_634 (by decide) (fun hc => ?_) (fun hc => ?_)
          · replace h := h.1 hc
            refine y_sub [2, 3, 4, 5, 6] rfl ?_
            exact b_law_649 cx hX hk hn hK23 v4 σ62 h
          · replace h := h.2 hc
            refine y_aload_n cx (pc := 637) d_law_637 rfl 5 rfl ?_
            refine y_iconst cx (pc := 638) ic_0 d_law_638 ?_
            refine y_outld cx (pc := 639) d_law_639 ?_
            refine y_iload cx (pc := 640) d_law_640 0 rfl ?_
            refine y_i2l cx (pc := 642) d_law_642 ?_
            refine y_lcmp_eq cx (pc := 643) (tgt := 649) d_law_643 d_law_644 (by decide) (fun hc => ?_) (fun hc => ?_)
            · replace h := h.1 hc
              refine y_sub [2, 3, 4, 5, 6] rfl ?_
              exact b_law_649 cx hX hk hn hK23 v4 σ62 h
            · replace h := h.2 hc
              refine y_iconst cx (pc := 647) ic_0 d_law_647 ?_
              exact y_zret cx (pc := 648) rfl bz_0 d_law_648 (by show (k + 1) ≤ 603072; omega) (by show (n + 6) ≤ 7207018; omega) h
        · replace h := h.2 hc
          refine y_iconst cx (pc := 630) ic_0 d_law_630 ?_
          exact y_zret cx (pc := 631) rfl bz_0 d_law_631 (by show (k + 1) ≤ 603072; omega) (by show (n + 6) ≤ 7207018; omega) h
      replace h := h.2 hc11
      by_cases hc12 : ((xs v4.toNatClampNeg) &&& 15) = 12
      · replace h := h.1 hc12
        refine y_tIn cx (pc := 39) (tgt := 652) (c := 12) d_law_39 hc12 (by decide) (by decide) rfl (by decide) ?_
        refine y_aload_n cx (pc := 652) d_law_652 rfl 1 rfl ?_
        refine y_aload_n cx (pc := 653) d_law_653 rfl 0 rfl ?_
        refine y_iload cx (pc := 654) d_law_654 4 rfl ?_
        refine y_iconst cx (pc := 656) ic_1 d_law_656 ?_
        refine y_iadd cx (pc := 657) d_law_657 ?_
        obtain ⟨h0, h⟩ := h
        refine y_sld cx (pc := 658) hX h0 d_law_658 ?_
        refine y_aload_n cx (pc := 659) d_law_659 rfl 3 rfl ?_
        refine y_sI cx (pc := 660) (st := []) [.ref (Δ.1 0), .int (xs (v4 + 1).toNatClampNeg), .ref (Δ.1 87)] (c_l_kept cx.fl Δ (xs (v4 + 1).toNatClampNeg) _ _ h) mv_l_kept kw_713 rfl (le_b rfl) (le_b rfl) (le_b rfl) (by show k + 1 ≤ 603072; omega) (by show n + 6 ≤ 7207018; omega) d_law_660 (fun x63 σ64 h => ?_) (fun x σ64 h => yt_no h)
        refine y_istore (lv' := [(5, .int x63), (0, .ref b), (1, .ref (Δ.1 0)), (2, .ref (Δ.1 58)), (3, .ref (Δ.1 87)), (4, .int v4)]) cx (pc := 663) d_law_663 (le_b rfl) rfl ?_
        refine y_aload_n cx (pc := 665) d_law_665 rfl 3 rfl ?_
        refine y_aload_n cx (pc := 666) d_law_666 rfl 1 rfl ?_
        refine y_iload cx (pc := 667) d_law_667 5 rfl ?_
        refine y_iconst cx (pc := 669) ic_1 d_law_669 ?_
        refine y_iadd cx (pc := 670) d_law_670 ?_
        obtain ⟨h0, h⟩ := h
        refine y_sld cx (pc := 671) hX h0 d_law_671 ?_
        refine y_vI cx (pc := 672) (st := []) [.int (xs (v4 + 1).toNatClampNeg)] (c_m_kept cx.fl Δ (xs (v4 + 1).toNatClampNeg) _ _ h) mv_m_kept kw_1122 (oc_58 Δ) ck_Md rfl (le_b rfl) (le_b rfl) (le_b rfl) (by show (k + 1) + 0 ≤ 603072; omega) (by show (n + 6) + 0 ≤ 7207018; omega) d_law_672 (fun x65 σ66 h => ?_) (fun x σ66 h => yt_no h)
        refine y_istore (lv' := [(6, .int x65), (5, .int x63), (0, .ref b), (1, .ref (Δ.1 0)), (2, .ref (Δ.1 58)), (3, .ref (Δ.1 87)), (4, .int v4)]) cx (pc := 675) d_law_675 (le_b rfl) rfl ?_
        refine y_aload_n cx (pc := 677) d_law_677 rfl 4 rfl ?_
        refine y_vI cx (pc := 678) (st := []) [] (c_m_thrown cx.fl Δ _ _ h) mv_m_thrown kw_884 (oc_58 Δ) ck_Md rfl (le_b rfl) (le_b rfl) (le_b rfl) (by show (k + 1) + 0 ≤ 603072; omega) (by show (n + 6) + 0 ≤ 7207018; omega) d_law_678 (fun x67 σ68 h => ?_) (fun x σ68 h => yt_no h)
        refine y_iload cx (pc := 681) d_law_681 1 rfl ?_
        refine y_icmp_eq cx (pc := 683) (tgt := 688) d_law_683 (by decide) (fun hc => ?_) (fun hc => ?_)
        · replace h := h.1 hc
          refine y_iload cx (pc := 688) d_law_688 1 rfl ?_
          refine y_if_ne cx (pc := 690) (tgt := 705) d_law_690 (by decide) (fun hc => ?_) (fun hc => ?_)
          · replace h := h.1 hc
            refine y_sub [2, 3, 4, 5, 6] rfl ?_
            exact b_law_705 cx hX hk hn hK23 v4 σ68 h
          · replace h := h.2 hc
            refine y_aload_n cx (pc := 693) d_law_693 rfl 5 rfl ?_
            refine y_iconst cx (pc := 694) ic_0 d_law_694 ?_
            refine y_outld cx (pc := 695) d_law_695 ?_
            refine y_iload cx (pc := 696) d_law_696 0 rfl ?_
            refine y_i2l cx (pc := 698) d_law_698 ?_
            refine y_lcmp_eq cx (pc := 699) (tgt := 705) d_law_699 d_law_700 (by decide) (fun hc => ?_) (fun hc => ?_)
            · replace h := h.1 hc
              refine y_sub [2, 3, 4, 5, 6] rfl ?_
              exact b_law_705 cx hX hk hn hK23 v4 σ68 h
            · replace h := h.2 hc
              refine y_iconst cx (pc := 703) ic_0 d_law_703 ?_
              exact y_zret cx (pc := 704) rfl bz_0 d_law_704 (by show (k + 1) ≤ 603072; omega) (by show (n + 6) ≤ 7207018; omega) h
        · replace h := h.2 hc
          refine y_iconst cx (pc := 686) ic_0 d_law_686 ?_
          exact y_zret cx (pc := 687) rfl bz_0 d_law_687 (by show (k + 1) ≤ 603072; omega) (by show (n + 6) ≤ 7207018; omega) h
      replace h := h.2 hc12
      by_cases hc13 : ((xs v4.toNatClampNeg) &&& 15) = 13
      · replace h := h.1 hc13
        refine y_tIn cx (pc := 39) (tgt := 708) (c := 13) d_law_39 hc13 (by decide) (by decide) rfl (by decide) ?_
        refine y_aload_n cx (pc := 708) d_law_708 rfl 1 rfl ?_
        refine y_aload_n cx (pc := 709) d_law_709 rfl 0 rfl ?_
        refine y_iload cx (pc := 710) d_law_710 4 rfl ?_
        refine y_iconst cx (pc := 712) ic_1 d_law_712 ?_
        refine y_iadd cx (pc := 713) d_law_713 ?_
        obtain ⟨h0, h⟩ := h
        refine y_sld cx (pc := 714) hX h0 d_law_714 ?_
        refine y_aload_n cx (pc := 715) d_law_715 rfl 3 rfl ?_
        refine y_sI cx (pc := 716) (st := []) [.ref (Δ.1 0), .int (xs (v4 + 1).toNatClampNeg), .ref (Δ.1 87)] (c_l_output cx.fl Δ (xs (v4 + 1).toNatClampNeg) _ _ h) mv_l_output kw_720 rfl (le_b rfl) (le_b rfl) (le_b rfl) (by show k + 1 ≤ 603072; omega) (by show n + 6 ≤ 7207018; omega) d_law_716 (fun x69 σ70 h => ?_) (fun x σ70 h => yt_no h)
        refine y_istore (lv' := [(5, .int x69), (0, .ref b), (1, .ref (Δ.1 0)), (2, .ref (Δ.1 58)), (3, .ref (Δ.1 87)), (4, .int v4)]) cx (pc := 719) d_law_719 (le_b rfl) rfl ?_
        refine y_aload_n cx (pc := 721) d_law_721 rfl 3 rfl ?_
        refine y_aload_n cx (pc := 722) d_law_722 rfl 1 rfl ?_
        refine y_iload cx (pc := 723) d_law_723 5 rfl ?_
        refine y_iconst cx (pc := 725) ic_1 d_law_725 ?_
        refine y_iadd cx (pc := 726) d_law_726 ?_
        obtain ⟨h0, h⟩ := h
        refine y_sld cx (pc := 727) hX h0 d_law_727 ?_
        refine y_vI cx (pc := 728) (st := []) [.int (xs (v4 + 1).toNatClampNeg)] (c_m_output cx.fl Δ (xs (v4 + 1).toNatClampNeg) _ _ h) mv_m_output kw_1126 (oc_58 Δ) ck_Md rfl (le_b rfl) (le_b rfl) (le_b rfl) (by show (k + 1) + 0 ≤ 603072; omega) (by show (n + 6) + 0 ≤ 7207018; omega) d_law_728 (fun x71 σ72 h => ?_) (fun x σ72 h => yt_no h)
        refine y_istore (lv' := [(6, .int x71), (5, .int x69), (0, .ref b), (1, .ref (Δ.1 0)), (2, .ref (Δ.1 58)), (3, .ref (Δ.1 87)), (4, .int v4)]) cx (pc := 731) d_law_731 (le_b rfl) rfl ?_
        refine y_aload_n cx (pc := 733) d_law_733 rfl 4 rfl ?_
        refine y_vI cx (pc := 734) (st := []) [] (c_m_thrown cx.fl Δ _ _ h) mv_m_thrown kw_884 (oc_58 Δ) ck_Md rfl (le_b rfl) (le_b rfl) (le_b rfl) (by show (k + 1) + 0 ≤ 603072; omega) (by show (n + 6) + 0 ≤ 7207018; omega) d_law_734 (fun x73 σ74 h => ?_) (fun x σ74 h => yt_no h)
        refine y_iload cx (pc := 737) d_law_737 1 rfl ?_
        refine y_icmp_eq cx (pc := 739) (tgt := 744) d_law_739 (by decide) (fun hc => ?_) (fun hc => ?_)
        · replace h := h.1 hc
          refine y_iload cx (pc := 744) d_law_744 1 rfl ?_
          refine y_if_ne cx (pc := 746) (tgt := 761) d_law_746 (by decide) (fun hc => ?_) (fun hc => ?_)
          · replace h := h.1 hc
            refine y_sub [2, 3, 4, 5, 6] rfl ?_
            exact b_law_761 cx hX hk hn hK23 v4 σ74 h
          · replace h := h.2 hc
            refine y_aload_n cx (pc := 749) d_law_749 rfl 5 rfl ?_
            refine y_iconst cx (pc := 750) ic_0 d_law_750 ?_
            refine y_outld cx (pc := 751) d_law_751 ?_
            refine y_iload cx (pc := 752) d_law_752 0 rfl ?_
            refine y_i2l cx (pc := 754) d_law_754 ?_
            refine y_lcmp_eq cx (pc := 755) (tgt := 761) d_law_755 d_law_756 (by decide) (fun hc => ?_) (fun hc => ?_)
            · replace h := h.1 hc
              refine y_sub [2, 3, 4, 5, 6] rfl ?_
              exact b_law_761 cx hX hk hn hK23 v4 σ74 h
            · replace h := h.2 hc
              refine y_iconst cx (pc := 759) ic_0 d_law_759 ?_
              exact y_zret cx (pc := 760) rfl bz_0 d_law_760 (by show (k + 1) ≤ 603072; omega) (by show (n + 6) ≤ 7207018; omega) h
        · replace h := h.2 hc
          refine y_iconst cx (pc := 742) ic_0 d_law_742 ?_
          exact y_zret cx (pc := 743) rfl bz_0 d_law_743 (by show (k + 1) ≤ 603072; omega) (by show (n + 6) ≤ 7207018; omega) h
      replace h := h.2 hc13
      by_cases hc14 : ((xs v4.toNatClampNeg) &&& 15) = 14
      · replace h := h.1 hc14
        refine y_tIn cx (pc := 39) (tgt := 764) (c := 14) d_law_39 hc14 (by decide) (by decide) rfl (by decide) ?_
        refine y_aload_n cx (pc := 764) d_law_764 rfl 1 rfl ?_
        refine y_aload_n cx (pc := 765) d_law_765 rfl 0 rfl ?_
        refine y_iload cx (pc := 766) d_law_766 4 rfl ?_
        refine y_iconst cx (pc := 768) ic_1 d_law_768 ?_
        refine y_iadd cx (pc := 769) d_law_769 ?_
        obtain ⟨h0, h⟩ := h
        refine y_sld cx (pc := 770) hX h0 d_law_770 ?_
        refine y_aload_n cx (pc := 771) d_law_771 rfl 3 rfl ?_
        refine y_sI cx (pc := 772) (st := []) [.ref (Δ.1 0), .int (xs (v4 + 1).toNatClampNeg), .ref (Δ.1 87)] (c_l_count cx.fl Δ (xs (v4 + 1).toNatClampNeg) _ _ h) mv_l_count kw_727 rfl (le_b rfl) (le_b rfl) (le_b rfl) (by show k + 1 ≤ 603072; omega) (by show n + 6 ≤ 7207018; omega) d_law_772 (fun x75 σ76 h => ?_) (fun x σ76 h => yt_no h)
        refine y_istore (lv' := [(5, .int x75), (0, .ref b), (1, .ref (Δ.1 0)), (2, .ref (Δ.1 58)), (3, .ref (Δ.1 87)), (4, .int v4)]) cx (pc := 775) d_law_775 (le_b rfl) rfl ?_
        refine y_aload_n cx (pc := 777) d_law_777 rfl 3 rfl ?_
        refine y_aload_n cx (pc := 778) d_law_778 rfl 1 rfl ?_
        refine y_iload cx (pc := 779) d_law_779 5 rfl ?_
        refine y_iconst cx (pc := 781) ic_1 d_law_781 ?_
        refine y_iadd cx (pc := 782) d_law_782 ?_
        obtain ⟨h0, h⟩ := h
        refine y_sld cx (pc := 783) hX h0 d_law_783 ?_
        refine y_vI cx (pc := 784) (st := []) [.int (xs (v4 + 1).toNatClampNeg)] (c_m_count cx.fl Δ (xs (v4 + 1).toNatClampNeg) _ _ h) mv_m_count kw_1130 (oc_58 Δ) ck_Md rfl (le_b rfl) (le_b rfl) (le_b rfl) (by show (k + 1) + 0 ≤ 603072; omega) (by show (n + 6) + 0 ≤ 7207018; omega) d_law_784 (fun x77 σ78 h => ?_) (fun x σ78 h => yt_no h)
        refine y_istore (lv' := [(6, .int x77), (5, .int x75), (0, .ref b), (1, .ref (Δ.1 0)), (2, .ref (Δ.1 58)), (3, .ref (Δ.1 87)), (4, .int v4)]) cx (pc := 787) d_law_787 (le_b rfl) rfl ?_
        refine y_aload_n cx (pc := 789) d_law_789 rfl 4 rfl ?_
        refine y_vI cx (pc := 790) (st := []) [] (c_m_thrown cx.fl Δ _ _ h) mv_m_thrown kw_884 (oc_58 Δ) ck_Md rfl (le_b rfl) (le_b rfl) (le_b rfl) (by show (k + 1) + 0 ≤ 603072; omega) (by show (n + 6) + 0 ≤ 7207018; omega) d_law_790 (fun x79 σ80 h => ?_) (fun x σ80 h => yt_no h)
        refine y_iload cx (pc := 793) d_law_793 1 rfl ?_
        refine y_icmp_eq cx (pc := 795) (tgt := 800) d_law_795 (by decide) (fun hc => ?_) (fun hc => ?_)
        · replace h := h.1 hc
          refine y_iload cx (pc := 800) d_law_800 1 rfl ?_
          refine y_if_ne cx (pc := 802) (tgt := 817) d_law_802 (by decide) (fun hc => ?_) (fun hc => ?_)
          · replace h := h.1 hc
            refine y_sub [2, 3, 4, 5, 6] rfl ?_
            exact b_law_817 cx hX hk hn hK23 v4 σ80 h
          · replace h := h.2 hc
            refine y_aload_n cx (pc := 805) d_law_805 rfl 5 rfl ?_
            refine y_iconst cx (pc := 806) ic_0 d_law_806 ?_
            refine y_outld cx (pc := 807) d_law_807 ?_
            refine y_iload cx (pc := 808) d_law_808 0 rfl ?_
            refine y_i2l cx (pc := 810) d_law_810 ?_
            refine y_lcmp_eq cx (pc := 811) (tgt := 817) d_law_811 d_law_812 (by decide) (fun hc => ?_) (fun hc => ?_)
            · replace h := h.1 hc
              refine y_sub [2, 3, 4, 5, 6] rfl ?_
              exact b_law_817 cx hX hk hn hK23 v4 σ80 h
            · replace h := h.2 hc
              refine y_iconst cx (pc := 815) ic_0 d_law_815 ?_
              exact y_zret cx (pc := 816) rfl bz_0 d_law_816 (by show (k + 1) ≤ 603072; omega) (by show (n + 6) ≤ 7207018; omega) h
        · replace h := h.2 hc
          refine y_iconst cx (pc := 798) ic_0 d_law_798 ?_
          exact y_zret cx (pc := 799) rfl bz_0 d_law_799 (by show (k + 1) ≤ 603072; omega) (by show (n + 6) ≤ 7207018; omega) h
      replace h := h.2 hc14
      refine y_tOut cx (pc := 39) (tgt := 820) d_law_39 (by have z0 := lv_neT hc0 (show (0 : Int32).toInt = 0 from rfl); have z1 := lv_neT hc1 (show (1 : Int32).toInt = 1 from rfl); have z2 := lv_neT hc2 (show (2 : Int32).toInt = 2 from rfl); have z3 := lv_neT hc3 (show (3 : Int32).toInt = 3 from rfl); have z4 := lv_neT hc4 (show (4 : Int32).toInt = 4 from rfl); have z5 := lv_neT hc5 (show (5 : Int32).toInt = 5 from rfl); have z6 := lv_neT hc6 (show (6 : Int32).toInt = 6 from rfl); have z7 := lv_neT hc7 (show (7 : Int32).toInt = 7 from rfl); have z8 := lv_neT hc8 (show (8 : Int32).toInt = 8 from rfl); have z9 := lv_neT hc9 (show (9 : Int32).toInt = 9 from rfl); have z10 := lv_neT hc10 (show (10 : Int32).toInt = 10 from rfl); have z11 := lv_neT hc11 (show (11 : Int32).toInt = 11 from rfl); have z12 := lv_neT hc12 (show (12 : Int32).toInt = 12 from rfl); have z13 := lv_neT hc13 (show (13 : Int32).toInt = 13 from rfl); have z14 := lv_neT hc14 (show (14 : Int32).toInt = 14 from rfl); omega) (by decide) ?_
      refine y_wide (k := k) (n := n) (k' := (k + 2)) (n' := (n + 12)) (by omega) (by omega) ?_
      exact b_law_820 cx hX hk hn hK23 v4 σ h
