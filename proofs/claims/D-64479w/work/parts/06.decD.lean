set_option maxRecDepth 100000
theorem dL_law_0 : decode cL_law 0 = .ok (.new 8, 3) := by decide +kernel
theorem dL_law_3 : decode cL_law 3 = .ok (.dup, 1) := by decide +kernel
theorem dL_law_4 : decode cL_law 4 = .ok (.invokespecial 75, 3) := by decide +kernel
theorem dL_law_7 : decode cL_law 7 = .ok (.astore_n 1, 1) := by decide +kernel
theorem dL_law_8 : decode cL_law 8 = .ok (.new 76, 3) := by decide +kernel
theorem dL_law_11 : decode cL_law 11 = .ok (.dup, 1) := by decide +kernel
theorem dL_law_12 : decode cL_law 12 = .ok (.invokespecial 78, 3) := by decide +kernel
theorem dL_law_15 : decode cL_law 15 = .ok (.astore_n 2, 1) := by decide +kernel
theorem dL_law_16 : decode cL_law 16 = .ok (.iconst 1, 1) := by decide +kernel
theorem dL_law_17 : decode cL_law 17 = .ok (.newarray .long, 2) := by decide +kernel
theorem dL_law_19 : decode cL_law 19 = .ok (.astore_n 3, 1) := by decide +kernel
theorem dL_law_20 : decode cL_law 20 = .ok (.iconst 0, 1) := by decide +kernel
theorem dL_law_21 : decode cL_law 21 = .ok (.istore 4, 2) := by decide +kernel
theorem dL_law_23 : decode cL_law 23 = .ok (.iload 4, 2) := by decide +kernel
theorem dL_law_25 : decode cL_law 25 = .ok (.aload_n 0, 1) := by decide +kernel
theorem dL_law_26 : decode cL_law 26 = .ok (.arraylength, 1) := by decide +kernel
theorem dL_law_27 : decode cL_law 27 = .ok (.bipush 8, 2) := by decide +kernel
theorem dL_law_29 : decode cL_law 29 = .ok (.isub, 1) := by decide +kernel
theorem dL_law_30 : decode cL_law 30 = .ok (.if_icmp .gt 1489, 3) := by decide +kernel
theorem dL_law_33 : decode cL_law 33 = .ok (.aload_n 0, 1) := by decide +kernel
theorem dL_law_34 : decode cL_law 34 = .ok (.iload 4, 2) := by decide +kernel
theorem dL_law_36 : decode cL_law 36 = .ok (.iaload, 1) := by decide +kernel
theorem dL_law_37 : decode cL_law 37 = .ok (.bipush 31, 2) := by decide +kernel
theorem dL_law_39 : decode cL_law 39 = .ok (.iand, 1) := by decide +kernel
theorem dL_law_40 : decode cL_law 40 = .ok (.tableswitch 1473 0 20 #[100, 200, 299, 398, 466, 578, 750, 825, 892, 972, 1051, 1131, 1167, 1230, 1286, 1354, 1365, 1378, 1391, 1404, 1460], 100) := by decide +kernel
theorem dL_law_140 : decode cL_law 140 = .ok (.aload_n 1, 1) := by decide +kernel
theorem dL_law_141 : decode cL_law 141 = .ok (.aload_n 0, 1) := by decide +kernel
theorem dL_law_142 : decode cL_law 142 = .ok (.iload 4, 2) := by decide +kernel
theorem dL_law_144 : decode cL_law 144 = .ok (.iconst 1, 1) := by decide +kernel
theorem dL_law_145 : decode cL_law 145 = .ok (.iadd, 1) := by decide +kernel
theorem dL_law_146 : decode cL_law 146 = .ok (.iaload, 1) := by decide +kernel
theorem dL_law_147 : decode cL_law 147 = .ok (.aload_n 0, 1) := by decide +kernel
theorem dL_law_148 : decode cL_law 148 = .ok (.iload 4, 2) := by decide +kernel
theorem dL_law_150 : decode cL_law 150 = .ok (.iconst 2, 1) := by decide +kernel
theorem dL_law_151 : decode cL_law 151 = .ok (.iadd, 1) := by decide +kernel
theorem dL_law_152 : decode cL_law 152 = .ok (.iaload, 1) := by decide +kernel
theorem dL_law_153 : decode cL_law 153 = .ok (.i2l, 1) := by decide +kernel
theorem dL_law_154 : decode cL_law 154 = .ok (.bipush 32, 2) := by decide +kernel
theorem dL_law_156 : decode cL_law 156 = .ok (.lshl, 1) := by decide +kernel
theorem dL_law_157 : decode cL_law 157 = .ok (.aload_n 0, 1) := by decide +kernel
theorem dL_law_158 : decode cL_law 158 = .ok (.iload 4, 2) := by decide +kernel
theorem dL_law_160 : decode cL_law 160 = .ok (.iconst 3, 1) := by decide +kernel
theorem dL_law_161 : decode cL_law 161 = .ok (.iadd, 1) := by decide +kernel
theorem dL_law_162 : decode cL_law 162 = .ok (.iaload, 1) := by decide +kernel
theorem dL_law_163 : decode cL_law 163 = .ok (.i2l, 1) := by decide +kernel
theorem dL_law_164 : decode cL_law 164 = .ok (.ldc2_w 79, 3) := by decide +kernel
theorem dL_law_167 : decode cL_law 167 = .ok (.land, 1) := by decide +kernel
theorem dL_law_168 : decode cL_law 168 = .ok (.lor, 1) := by decide +kernel
theorem dL_law_169 : decode cL_law 169 = .ok (.aload_n 3, 1) := by decide +kernel
theorem dL_law_170 : decode cL_law 170 = .ok (.invokestatic 81, 3) := by decide +kernel
theorem dL_law_173 : decode cL_law 173 = .ok (.istore 5, 2) := by decide +kernel
theorem dL_law_175 : decode cL_law 175 = .ok (.aload_n 2, 1) := by decide +kernel
theorem dL_law_176 : decode cL_law 176 = .ok (.aload_n 0, 1) := by decide +kernel
theorem dL_law_177 : decode cL_law 177 = .ok (.iload 4, 2) := by decide +kernel
theorem dL_law_179 : decode cL_law 179 = .ok (.iconst 1, 1) := by decide +kernel
theorem dL_law_180 : decode cL_law 180 = .ok (.iadd, 1) := by decide +kernel
theorem dL_law_181 : decode cL_law 181 = .ok (.iaload, 1) := by decide +kernel
theorem dL_law_182 : decode cL_law 182 = .ok (.aload_n 0, 1) := by decide +kernel
theorem dL_law_183 : decode cL_law 183 = .ok (.iload 4, 2) := by decide +kernel
theorem dL_law_185 : decode cL_law 185 = .ok (.iconst 2, 1) := by decide +kernel
theorem dL_law_186 : decode cL_law 186 = .ok (.iadd, 1) := by decide +kernel
theorem dL_law_187 : decode cL_law 187 = .ok (.iaload, 1) := by decide +kernel
theorem dL_law_188 : decode cL_law 188 = .ok (.i2l, 1) := by decide +kernel
theorem dL_law_189 : decode cL_law 189 = .ok (.bipush 32, 2) := by decide +kernel
theorem dL_law_191 : decode cL_law 191 = .ok (.lshl, 1) := by decide +kernel
theorem dL_law_192 : decode cL_law 192 = .ok (.aload_n 0, 1) := by decide +kernel
theorem dL_law_193 : decode cL_law 193 = .ok (.iload 4, 2) := by decide +kernel
theorem dL_law_195 : decode cL_law 195 = .ok (.iconst 3, 1) := by decide +kernel
theorem dL_law_196 : decode cL_law 196 = .ok (.iadd, 1) := by decide +kernel
theorem dL_law_197 : decode cL_law 197 = .ok (.iaload, 1) := by decide +kernel
theorem dL_law_198 : decode cL_law 198 = .ok (.i2l, 1) := by decide +kernel
theorem dL_law_199 : decode cL_law 199 = .ok (.ldc2_w 79, 3) := by decide +kernel
theorem dL_law_202 : decode cL_law 202 = .ok (.land, 1) := by decide +kernel
theorem dL_law_203 : decode cL_law 203 = .ok (.lor, 1) := by decide +kernel
theorem dL_law_204 : decode cL_law 204 = .ok (.invokevirtual 86, 3) := by decide +kernel
theorem dL_law_207 : decode cL_law 207 = .ok (.istore 6, 2) := by decide +kernel
theorem dL_law_209 : decode cL_law 209 = .ok (.aload_n 2, 1) := by decide +kernel
theorem dL_law_210 : decode cL_law 210 = .ok (.invokevirtual 87, 3) := by decide +kernel
theorem dL_law_213 : decode cL_law 213 = .ok (.iload 5, 2) := by decide +kernel
theorem dL_law_215 : decode cL_law 215 = .ok (.if_icmp .eq 5, 3) := by decide +kernel
theorem dL_law_218 : decode cL_law 218 = .ok (.iconst 0, 1) := by decide +kernel
theorem dL_law_219 : decode cL_law 219 = .ok (.ireturn, 1) := by decide +kernel
theorem dL_law_220 : decode cL_law 220 = .ok (.iload 5, 2) := by decide +kernel
theorem dL_law_222 : decode cL_law 222 = .ok (.ifCond .ne 15, 3) := by decide +kernel
theorem dL_law_225 : decode cL_law 225 = .ok (.aload_n 3, 1) := by decide +kernel
theorem dL_law_226 : decode cL_law 226 = .ok (.iconst 0, 1) := by decide +kernel
theorem dL_law_227 : decode cL_law 227 = .ok (.laload, 1) := by decide +kernel
theorem dL_law_228 : decode cL_law 228 = .ok (.iload 6, 2) := by decide +kernel
theorem dL_law_230 : decode cL_law 230 = .ok (.i2l, 1) := by decide +kernel
theorem dL_law_231 : decode cL_law 231 = .ok (.lcmp, 1) := by decide +kernel
theorem dL_law_232 : decode cL_law 232 = .ok (.ifCond .eq 5, 3) := by decide +kernel
theorem dL_law_235 : decode cL_law 235 = .ok (.iconst 0, 1) := by decide +kernel
theorem dL_law_236 : decode cL_law 236 = .ok (.ireturn, 1) := by decide +kernel
theorem dL_law_237 : decode cL_law 237 = .ok (.goto 1276, 3) := by decide +kernel
theorem dL_law_240 : decode cL_law 240 = .ok (.aload_n 1, 1) := by decide +kernel
theorem dL_law_241 : decode cL_law 241 = .ok (.aload_n 0, 1) := by decide +kernel
theorem dL_law_242 : decode cL_law 242 = .ok (.iload 4, 2) := by decide +kernel
theorem dL_law_244 : decode cL_law 244 = .ok (.iconst 1, 1) := by decide +kernel
theorem dL_law_245 : decode cL_law 245 = .ok (.iadd, 1) := by decide +kernel
theorem dL_law_246 : decode cL_law 246 = .ok (.iaload, 1) := by decide +kernel
theorem dL_law_247 : decode cL_law 247 = .ok (.aload_n 0, 1) := by decide +kernel
theorem dL_law_248 : decode cL_law 248 = .ok (.iload 4, 2) := by decide +kernel
theorem dL_law_250 : decode cL_law 250 = .ok (.iconst 2, 1) := by decide +kernel
theorem dL_law_251 : decode cL_law 251 = .ok (.iadd, 1) := by decide +kernel
theorem dL_law_252 : decode cL_law 252 = .ok (.iaload, 1) := by decide +kernel
theorem dL_law_253 : decode cL_law 253 = .ok (.i2l, 1) := by decide +kernel
theorem dL_law_254 : decode cL_law 254 = .ok (.bipush 32, 2) := by decide +kernel
theorem dL_law_256 : decode cL_law 256 = .ok (.lshl, 1) := by decide +kernel
theorem dL_law_257 : decode cL_law 257 = .ok (.aload_n 0, 1) := by decide +kernel
theorem dL_law_258 : decode cL_law 258 = .ok (.iload 4, 2) := by decide +kernel
theorem dL_law_260 : decode cL_law 260 = .ok (.iconst 3, 1) := by decide +kernel
theorem dL_law_261 : decode cL_law 261 = .ok (.iadd, 1) := by decide +kernel
theorem dL_law_262 : decode cL_law 262 = .ok (.iaload, 1) := by decide +kernel
theorem dL_law_263 : decode cL_law 263 = .ok (.i2l, 1) := by decide +kernel
theorem dL_law_264 : decode cL_law 264 = .ok (.ldc2_w 79, 3) := by decide +kernel
theorem dL_law_267 : decode cL_law 267 = .ok (.land, 1) := by decide +kernel
theorem dL_law_268 : decode cL_law 268 = .ok (.lor, 1) := by decide +kernel
theorem dL_law_269 : decode cL_law 269 = .ok (.aload_n 3, 1) := by decide +kernel
theorem dL_law_270 : decode cL_law 270 = .ok (.invokestatic 91, 3) := by decide +kernel
theorem dL_law_273 : decode cL_law 273 = .ok (.istore 5, 2) := by decide +kernel
theorem dL_law_275 : decode cL_law 275 = .ok (.aload_n 2, 1) := by decide +kernel
theorem dL_law_276 : decode cL_law 276 = .ok (.aload_n 0, 1) := by decide +kernel
theorem dL_law_277 : decode cL_law 277 = .ok (.iload 4, 2) := by decide +kernel
theorem dL_law_279 : decode cL_law 279 = .ok (.iconst 1, 1) := by decide +kernel
theorem dL_law_280 : decode cL_law 280 = .ok (.iadd, 1) := by decide +kernel
theorem dL_law_281 : decode cL_law 281 = .ok (.iaload, 1) := by decide +kernel
theorem dL_law_282 : decode cL_law 282 = .ok (.aload_n 0, 1) := by decide +kernel
theorem dL_law_283 : decode cL_law 283 = .ok (.iload 4, 2) := by decide +kernel
theorem dL_law_285 : decode cL_law 285 = .ok (.iconst 2, 1) := by decide +kernel
theorem dL_law_286 : decode cL_law 286 = .ok (.iadd, 1) := by decide +kernel
theorem dL_law_287 : decode cL_law 287 = .ok (.iaload, 1) := by decide +kernel
theorem dL_law_288 : decode cL_law 288 = .ok (.i2l, 1) := by decide +kernel
theorem dL_law_289 : decode cL_law 289 = .ok (.bipush 32, 2) := by decide +kernel
theorem dL_law_291 : decode cL_law 291 = .ok (.lshl, 1) := by decide +kernel
theorem dL_law_292 : decode cL_law 292 = .ok (.aload_n 0, 1) := by decide +kernel
theorem dL_law_293 : decode cL_law 293 = .ok (.iload 4, 2) := by decide +kernel
theorem dL_law_295 : decode cL_law 295 = .ok (.iconst 3, 1) := by decide +kernel
theorem dL_law_296 : decode cL_law 296 = .ok (.iadd, 1) := by decide +kernel
theorem dL_law_297 : decode cL_law 297 = .ok (.iaload, 1) := by decide +kernel
theorem dL_law_298 : decode cL_law 298 = .ok (.i2l, 1) := by decide +kernel
theorem dL_law_299 : decode cL_law 299 = .ok (.ldc2_w 79, 3) := by decide +kernel
theorem dL_law_302 : decode cL_law 302 = .ok (.land, 1) := by decide +kernel
theorem dL_law_303 : decode cL_law 303 = .ok (.lor, 1) := by decide +kernel
theorem dL_law_304 : decode cL_law 304 = .ok (.invokevirtual 93, 3) := by decide +kernel
theorem dL_law_307 : decode cL_law 307 = .ok (.lstore 6, 2) := by decide +kernel
theorem dL_law_309 : decode cL_law 309 = .ok (.aload_n 2, 1) := by decide +kernel
theorem dL_law_310 : decode cL_law 310 = .ok (.invokevirtual 87, 3) := by decide +kernel
theorem dL_law_313 : decode cL_law 313 = .ok (.iload 5, 2) := by decide +kernel
theorem dL_law_315 : decode cL_law 315 = .ok (.if_icmp .eq 5, 3) := by decide +kernel
theorem dL_law_318 : decode cL_law 318 = .ok (.iconst 0, 1) := by decide +kernel
theorem dL_law_319 : decode cL_law 319 = .ok (.ireturn, 1) := by decide +kernel
theorem dL_law_320 : decode cL_law 320 = .ok (.iload 5, 2) := by decide +kernel
theorem dL_law_322 : decode cL_law 322 = .ok (.ifCond .ne 14, 3) := by decide +kernel
theorem dL_law_325 : decode cL_law 325 = .ok (.aload_n 3, 1) := by decide +kernel
theorem dL_law_326 : decode cL_law 326 = .ok (.iconst 0, 1) := by decide +kernel
theorem dL_law_327 : decode cL_law 327 = .ok (.laload, 1) := by decide +kernel
theorem dL_law_328 : decode cL_law 328 = .ok (.lload 6, 2) := by decide +kernel
theorem dL_law_330 : decode cL_law 330 = .ok (.lcmp, 1) := by decide +kernel
theorem dL_law_331 : decode cL_law 331 = .ok (.ifCond .eq 5, 3) := by decide +kernel
theorem dL_law_334 : decode cL_law 334 = .ok (.iconst 0, 1) := by decide +kernel
theorem dL_law_335 : decode cL_law 335 = .ok (.ireturn, 1) := by decide +kernel
theorem dL_law_336 : decode cL_law 336 = .ok (.goto 1177, 3) := by decide +kernel
theorem dL_law_339 : decode cL_law 339 = .ok (.aload_n 1, 1) := by decide +kernel
theorem dL_law_340 : decode cL_law 340 = .ok (.aload_n 0, 1) := by decide +kernel
theorem dL_law_341 : decode cL_law 341 = .ok (.iload 4, 2) := by decide +kernel
theorem dL_law_343 : decode cL_law 343 = .ok (.iconst 1, 1) := by decide +kernel
theorem dL_law_344 : decode cL_law 344 = .ok (.iadd, 1) := by decide +kernel
theorem dL_law_345 : decode cL_law 345 = .ok (.iaload, 1) := by decide +kernel
theorem dL_law_346 : decode cL_law 346 = .ok (.aload_n 0, 1) := by decide +kernel
theorem dL_law_347 : decode cL_law 347 = .ok (.iload 4, 2) := by decide +kernel
theorem dL_law_349 : decode cL_law 349 = .ok (.iconst 2, 1) := by decide +kernel
theorem dL_law_350 : decode cL_law 350 = .ok (.iadd, 1) := by decide +kernel
theorem dL_law_351 : decode cL_law 351 = .ok (.iaload, 1) := by decide +kernel
theorem dL_law_352 : decode cL_law 352 = .ok (.i2l, 1) := by decide +kernel
theorem dL_law_353 : decode cL_law 353 = .ok (.bipush 32, 2) := by decide +kernel
theorem dL_law_355 : decode cL_law 355 = .ok (.lshl, 1) := by decide +kernel
theorem dL_law_356 : decode cL_law 356 = .ok (.aload_n 0, 1) := by decide +kernel
theorem dL_law_357 : decode cL_law 357 = .ok (.iload 4, 2) := by decide +kernel
theorem dL_law_359 : decode cL_law 359 = .ok (.iconst 3, 1) := by decide +kernel
theorem dL_law_360 : decode cL_law 360 = .ok (.iadd, 1) := by decide +kernel
theorem dL_law_361 : decode cL_law 361 = .ok (.iaload, 1) := by decide +kernel
theorem dL_law_362 : decode cL_law 362 = .ok (.i2l, 1) := by decide +kernel
theorem dL_law_363 : decode cL_law 363 = .ok (.ldc2_w 79, 3) := by decide +kernel
theorem dL_law_366 : decode cL_law 366 = .ok (.land, 1) := by decide +kernel
theorem dL_law_367 : decode cL_law 367 = .ok (.lor, 1) := by decide +kernel
theorem dL_law_368 : decode cL_law 368 = .ok (.aload_n 3, 1) := by decide +kernel
theorem dL_law_369 : decode cL_law 369 = .ok (.invokestatic 94, 3) := by decide +kernel
theorem dL_law_372 : decode cL_law 372 = .ok (.istore 5, 2) := by decide +kernel
theorem dL_law_374 : decode cL_law 374 = .ok (.aload_n 2, 1) := by decide +kernel
theorem dL_law_375 : decode cL_law 375 = .ok (.aload_n 0, 1) := by decide +kernel
theorem dL_law_376 : decode cL_law 376 = .ok (.iload 4, 2) := by decide +kernel
theorem dL_law_378 : decode cL_law 378 = .ok (.iconst 1, 1) := by decide +kernel
theorem dL_law_379 : decode cL_law 379 = .ok (.iadd, 1) := by decide +kernel
theorem dL_law_380 : decode cL_law 380 = .ok (.iaload, 1) := by decide +kernel
theorem dL_law_381 : decode cL_law 381 = .ok (.aload_n 0, 1) := by decide +kernel
theorem dL_law_382 : decode cL_law 382 = .ok (.iload 4, 2) := by decide +kernel
theorem dL_law_384 : decode cL_law 384 = .ok (.iconst 2, 1) := by decide +kernel
theorem dL_law_385 : decode cL_law 385 = .ok (.iadd, 1) := by decide +kernel
theorem dL_law_386 : decode cL_law 386 = .ok (.iaload, 1) := by decide +kernel
theorem dL_law_387 : decode cL_law 387 = .ok (.i2l, 1) := by decide +kernel
theorem dL_law_388 : decode cL_law 388 = .ok (.bipush 32, 2) := by decide +kernel
theorem dL_law_390 : decode cL_law 390 = .ok (.lshl, 1) := by decide +kernel
theorem dL_law_391 : decode cL_law 391 = .ok (.aload_n 0, 1) := by decide +kernel
theorem dL_law_392 : decode cL_law 392 = .ok (.iload 4, 2) := by decide +kernel
theorem dL_law_394 : decode cL_law 394 = .ok (.iconst 3, 1) := by decide +kernel
theorem dL_law_395 : decode cL_law 395 = .ok (.iadd, 1) := by decide +kernel
theorem dL_law_396 : decode cL_law 396 = .ok (.iaload, 1) := by decide +kernel
theorem dL_law_397 : decode cL_law 397 = .ok (.i2l, 1) := by decide +kernel
theorem dL_law_398 : decode cL_law 398 = .ok (.ldc2_w 79, 3) := by decide +kernel
theorem dL_law_401 : decode cL_law 401 = .ok (.land, 1) := by decide +kernel
theorem dL_law_402 : decode cL_law 402 = .ok (.lor, 1) := by decide +kernel
theorem dL_law_403 : decode cL_law 403 = .ok (.invokevirtual 96, 3) := by decide +kernel
theorem dL_law_406 : decode cL_law 406 = .ok (.lstore 6, 2) := by decide +kernel
theorem dL_law_408 : decode cL_law 408 = .ok (.aload_n 2, 1) := by decide +kernel
theorem dL_law_409 : decode cL_law 409 = .ok (.invokevirtual 87, 3) := by decide +kernel
theorem dL_law_412 : decode cL_law 412 = .ok (.iload 5, 2) := by decide +kernel
theorem dL_law_414 : decode cL_law 414 = .ok (.if_icmp .eq 5, 3) := by decide +kernel
theorem dL_law_417 : decode cL_law 417 = .ok (.iconst 0, 1) := by decide +kernel
theorem dL_law_418 : decode cL_law 418 = .ok (.ireturn, 1) := by decide +kernel
theorem dL_law_419 : decode cL_law 419 = .ok (.iload 5, 2) := by decide +kernel
theorem dL_law_421 : decode cL_law 421 = .ok (.ifCond .ne 14, 3) := by decide +kernel
theorem dL_law_424 : decode cL_law 424 = .ok (.aload_n 3, 1) := by decide +kernel
theorem dL_law_425 : decode cL_law 425 = .ok (.iconst 0, 1) := by decide +kernel
theorem dL_law_426 : decode cL_law 426 = .ok (.laload, 1) := by decide +kernel
theorem dL_law_427 : decode cL_law 427 = .ok (.lload 6, 2) := by decide +kernel
theorem dL_law_429 : decode cL_law 429 = .ok (.lcmp, 1) := by decide +kernel
theorem dL_law_430 : decode cL_law 430 = .ok (.ifCond .eq 5, 3) := by decide +kernel
theorem dL_law_433 : decode cL_law 433 = .ok (.iconst 0, 1) := by decide +kernel
theorem dL_law_434 : decode cL_law 434 = .ok (.ireturn, 1) := by decide +kernel
theorem dL_law_435 : decode cL_law 435 = .ok (.goto 1078, 3) := by decide +kernel
theorem dL_law_438 : decode cL_law 438 = .ok (.aload_n 1, 1) := by decide +kernel
theorem dL_law_439 : decode cL_law 439 = .ok (.aload_n 0, 1) := by decide +kernel
theorem dL_law_440 : decode cL_law 440 = .ok (.iload 4, 2) := by decide +kernel
theorem dL_law_442 : decode cL_law 442 = .ok (.iconst 1, 1) := by decide +kernel
theorem dL_law_443 : decode cL_law 443 = .ok (.iadd, 1) := by decide +kernel
theorem dL_law_444 : decode cL_law 444 = .ok (.iaload, 1) := by decide +kernel
theorem dL_law_445 : decode cL_law 445 = .ok (.aload_n 0, 1) := by decide +kernel
theorem dL_law_446 : decode cL_law 446 = .ok (.iload 4, 2) := by decide +kernel
theorem dL_law_448 : decode cL_law 448 = .ok (.iconst 2, 1) := by decide +kernel
theorem dL_law_449 : decode cL_law 449 = .ok (.iadd, 1) := by decide +kernel
theorem dL_law_450 : decode cL_law 450 = .ok (.iaload, 1) := by decide +kernel
theorem dL_law_451 : decode cL_law 451 = .ok (.aload_n 3, 1) := by decide +kernel
theorem dL_law_452 : decode cL_law 452 = .ok (.invokestatic 97, 3) := by decide +kernel
theorem dL_law_455 : decode cL_law 455 = .ok (.istore 5, 2) := by decide +kernel
theorem dL_law_457 : decode cL_law 457 = .ok (.aload_n 2, 1) := by decide +kernel
theorem dL_law_458 : decode cL_law 458 = .ok (.aload_n 0, 1) := by decide +kernel
theorem dL_law_459 : decode cL_law 459 = .ok (.iload 4, 2) := by decide +kernel
theorem dL_law_461 : decode cL_law 461 = .ok (.iconst 1, 1) := by decide +kernel
theorem dL_law_462 : decode cL_law 462 = .ok (.iadd, 1) := by decide +kernel
theorem dL_law_463 : decode cL_law 463 = .ok (.iaload, 1) := by decide +kernel
theorem dL_law_464 : decode cL_law 464 = .ok (.aload_n 0, 1) := by decide +kernel
theorem dL_law_465 : decode cL_law 465 = .ok (.iload 4, 2) := by decide +kernel
theorem dL_law_467 : decode cL_law 467 = .ok (.iconst 2, 1) := by decide +kernel
theorem dL_law_468 : decode cL_law 468 = .ok (.iadd, 1) := by decide +kernel
theorem dL_law_469 : decode cL_law 469 = .ok (.iaload, 1) := by decide +kernel
theorem dL_law_470 : decode cL_law 470 = .ok (.invokevirtual 100, 3) := by decide +kernel
theorem dL_law_473 : decode cL_law 473 = .ok (.istore 6, 2) := by decide +kernel
theorem dL_law_475 : decode cL_law 475 = .ok (.aload_n 2, 1) := by decide +kernel
theorem dL_law_476 : decode cL_law 476 = .ok (.invokevirtual 87, 3) := by decide +kernel
theorem dL_law_479 : decode cL_law 479 = .ok (.iload 5, 2) := by decide +kernel
theorem dL_law_481 : decode cL_law 481 = .ok (.if_icmp .eq 5, 3) := by decide +kernel
theorem dL_law_484 : decode cL_law 484 = .ok (.iconst 0, 1) := by decide +kernel
theorem dL_law_485 : decode cL_law 485 = .ok (.ireturn, 1) := by decide +kernel
theorem dL_law_486 : decode cL_law 486 = .ok (.iload 5, 2) := by decide +kernel
theorem dL_law_488 : decode cL_law 488 = .ok (.ifCond .ne 15, 3) := by decide +kernel
theorem dL_law_491 : decode cL_law 491 = .ok (.aload_n 3, 1) := by decide +kernel
theorem dL_law_492 : decode cL_law 492 = .ok (.iconst 0, 1) := by decide +kernel
theorem dL_law_493 : decode cL_law 493 = .ok (.laload, 1) := by decide +kernel
theorem dL_law_494 : decode cL_law 494 = .ok (.iload 6, 2) := by decide +kernel
theorem dL_law_496 : decode cL_law 496 = .ok (.i2l, 1) := by decide +kernel
theorem dL_law_497 : decode cL_law 497 = .ok (.lcmp, 1) := by decide +kernel
theorem dL_law_498 : decode cL_law 498 = .ok (.ifCond .eq 5, 3) := by decide +kernel
theorem dL_law_501 : decode cL_law 501 = .ok (.iconst 0, 1) := by decide +kernel
theorem dL_law_502 : decode cL_law 502 = .ok (.ireturn, 1) := by decide +kernel
theorem dL_law_503 : decode cL_law 503 = .ok (.goto 1010, 3) := by decide +kernel
theorem dL_law_506 : decode cL_law 506 = .ok (.aload_n 1, 1) := by decide +kernel
theorem dL_law_507 : decode cL_law 507 = .ok (.aload_n 0, 1) := by decide +kernel
theorem dL_law_508 : decode cL_law 508 = .ok (.iload 4, 2) := by decide +kernel
theorem dL_law_510 : decode cL_law 510 = .ok (.iconst 1, 1) := by decide +kernel
theorem dL_law_511 : decode cL_law 511 = .ok (.iadd, 1) := by decide +kernel
theorem dL_law_512 : decode cL_law 512 = .ok (.iaload, 1) := by decide +kernel
theorem dL_law_513 : decode cL_law 513 = .ok (.aload_n 0, 1) := by decide +kernel
theorem dL_law_514 : decode cL_law 514 = .ok (.iload 4, 2) := by decide +kernel
theorem dL_law_516 : decode cL_law 516 = .ok (.iconst 2, 1) := by decide +kernel
theorem dL_law_517 : decode cL_law 517 = .ok (.iadd, 1) := by decide +kernel
theorem dL_law_518 : decode cL_law 518 = .ok (.iaload, 1) := by decide +kernel
theorem dL_law_519 : decode cL_law 519 = .ok (.aload_n 0, 1) := by decide +kernel
theorem dL_law_520 : decode cL_law 520 = .ok (.iload 4, 2) := by decide +kernel
theorem dL_law_522 : decode cL_law 522 = .ok (.iconst 3, 1) := by decide +kernel
theorem dL_law_523 : decode cL_law 523 = .ok (.iadd, 1) := by decide +kernel
theorem dL_law_524 : decode cL_law 524 = .ok (.iaload, 1) := by decide +kernel
theorem dL_law_525 : decode cL_law 525 = .ok (.i2l, 1) := by decide +kernel
theorem dL_law_526 : decode cL_law 526 = .ok (.bipush 32, 2) := by decide +kernel
theorem dL_law_528 : decode cL_law 528 = .ok (.lshl, 1) := by decide +kernel
theorem dL_law_529 : decode cL_law 529 = .ok (.aload_n 0, 1) := by decide +kernel
theorem dL_law_530 : decode cL_law 530 = .ok (.iload 4, 2) := by decide +kernel
theorem dL_law_532 : decode cL_law 532 = .ok (.iconst 4, 1) := by decide +kernel
theorem dL_law_533 : decode cL_law 533 = .ok (.iadd, 1) := by decide +kernel
theorem dL_law_534 : decode cL_law 534 = .ok (.iaload, 1) := by decide +kernel
theorem dL_law_535 : decode cL_law 535 = .ok (.i2l, 1) := by decide +kernel
theorem dL_law_536 : decode cL_law 536 = .ok (.ldc2_w 79, 3) := by decide +kernel
theorem dL_law_539 : decode cL_law 539 = .ok (.land, 1) := by decide +kernel
theorem dL_law_540 : decode cL_law 540 = .ok (.lor, 1) := by decide +kernel
theorem dL_law_541 : decode cL_law 541 = .ok (.aload_n 3, 1) := by decide +kernel
theorem dL_law_542 : decode cL_law 542 = .ok (.invokestatic 101, 3) := by decide +kernel
theorem dL_law_545 : decode cL_law 545 = .ok (.istore 5, 2) := by decide +kernel
theorem dL_law_547 : decode cL_law 547 = .ok (.aload_n 2, 1) := by decide +kernel
theorem dL_law_548 : decode cL_law 548 = .ok (.aload_n 0, 1) := by decide +kernel
theorem dL_law_549 : decode cL_law 549 = .ok (.iload 4, 2) := by decide +kernel
theorem dL_law_551 : decode cL_law 551 = .ok (.iconst 1, 1) := by decide +kernel
theorem dL_law_552 : decode cL_law 552 = .ok (.iadd, 1) := by decide +kernel
theorem dL_law_553 : decode cL_law 553 = .ok (.iaload, 1) := by decide +kernel
theorem dL_law_554 : decode cL_law 554 = .ok (.aload_n 0, 1) := by decide +kernel
theorem dL_law_555 : decode cL_law 555 = .ok (.iload 4, 2) := by decide +kernel
theorem dL_law_557 : decode cL_law 557 = .ok (.iconst 2, 1) := by decide +kernel
theorem dL_law_558 : decode cL_law 558 = .ok (.iadd, 1) := by decide +kernel
theorem dL_law_559 : decode cL_law 559 = .ok (.iaload, 1) := by decide +kernel
theorem dL_law_560 : decode cL_law 560 = .ok (.aload_n 0, 1) := by decide +kernel
theorem dL_law_561 : decode cL_law 561 = .ok (.iload 4, 2) := by decide +kernel
theorem dL_law_563 : decode cL_law 563 = .ok (.iconst 3, 1) := by decide +kernel
theorem dL_law_564 : decode cL_law 564 = .ok (.iadd, 1) := by decide +kernel
theorem dL_law_565 : decode cL_law 565 = .ok (.iaload, 1) := by decide +kernel
theorem dL_law_566 : decode cL_law 566 = .ok (.i2l, 1) := by decide +kernel
theorem dL_law_567 : decode cL_law 567 = .ok (.bipush 32, 2) := by decide +kernel
theorem dL_law_569 : decode cL_law 569 = .ok (.lshl, 1) := by decide +kernel
theorem dL_law_570 : decode cL_law 570 = .ok (.aload_n 0, 1) := by decide +kernel
theorem dL_law_571 : decode cL_law 571 = .ok (.iload 4, 2) := by decide +kernel
theorem dL_law_573 : decode cL_law 573 = .ok (.iconst 4, 1) := by decide +kernel
theorem dL_law_574 : decode cL_law 574 = .ok (.iadd, 1) := by decide +kernel
theorem dL_law_575 : decode cL_law 575 = .ok (.iaload, 1) := by decide +kernel
theorem dL_law_576 : decode cL_law 576 = .ok (.i2l, 1) := by decide +kernel
theorem dL_law_577 : decode cL_law 577 = .ok (.ldc2_w 79, 3) := by decide +kernel
theorem dL_law_580 : decode cL_law 580 = .ok (.land, 1) := by decide +kernel
theorem dL_law_581 : decode cL_law 581 = .ok (.lor, 1) := by decide +kernel
theorem dL_law_582 : decode cL_law 582 = .ok (.invokevirtual 104, 3) := by decide +kernel
theorem dL_law_585 : decode cL_law 585 = .ok (.istore 6, 2) := by decide +kernel
theorem dL_law_587 : decode cL_law 587 = .ok (.aload_n 2, 1) := by decide +kernel
theorem dL_law_588 : decode cL_law 588 = .ok (.invokevirtual 87, 3) := by decide +kernel
theorem dL_law_591 : decode cL_law 591 = .ok (.iload 5, 2) := by decide +kernel
theorem dL_law_593 : decode cL_law 593 = .ok (.if_icmp .eq 5, 3) := by decide +kernel
theorem dL_law_596 : decode cL_law 596 = .ok (.iconst 0, 1) := by decide +kernel
theorem dL_law_597 : decode cL_law 597 = .ok (.ireturn, 1) := by decide +kernel
theorem dL_law_598 : decode cL_law 598 = .ok (.iload 5, 2) := by decide +kernel
theorem dL_law_600 : decode cL_law 600 = .ok (.ifCond .ne 15, 3) := by decide +kernel
theorem dL_law_603 : decode cL_law 603 = .ok (.aload_n 3, 1) := by decide +kernel
theorem dL_law_604 : decode cL_law 604 = .ok (.iconst 0, 1) := by decide +kernel
theorem dL_law_605 : decode cL_law 605 = .ok (.laload, 1) := by decide +kernel
theorem dL_law_606 : decode cL_law 606 = .ok (.iload 6, 2) := by decide +kernel
theorem dL_law_608 : decode cL_law 608 = .ok (.i2l, 1) := by decide +kernel
theorem dL_law_609 : decode cL_law 609 = .ok (.lcmp, 1) := by decide +kernel
theorem dL_law_610 : decode cL_law 610 = .ok (.ifCond .eq 5, 3) := by decide +kernel
theorem dL_law_613 : decode cL_law 613 = .ok (.iconst 0, 1) := by decide +kernel
theorem dL_law_614 : decode cL_law 614 = .ok (.ireturn, 1) := by decide +kernel
theorem dL_law_615 : decode cL_law 615 = .ok (.goto 898, 3) := by decide +kernel
theorem dL_law_618 : decode cL_law 618 = .ok (.aload_n 1, 1) := by decide +kernel
theorem dL_law_619 : decode cL_law 619 = .ok (.aload_n 0, 1) := by decide +kernel
theorem dL_law_620 : decode cL_law 620 = .ok (.iload 4, 2) := by decide +kernel
theorem dL_law_622 : decode cL_law 622 = .ok (.iconst 1, 1) := by decide +kernel
theorem dL_law_623 : decode cL_law 623 = .ok (.iadd, 1) := by decide +kernel
theorem dL_law_624 : decode cL_law 624 = .ok (.iaload, 1) := by decide +kernel
theorem dL_law_625 : decode cL_law 625 = .ok (.aload_n 0, 1) := by decide +kernel
theorem dL_law_626 : decode cL_law 626 = .ok (.iload 4, 2) := by decide +kernel
theorem dL_law_628 : decode cL_law 628 = .ok (.iconst 2, 1) := by decide +kernel
theorem dL_law_629 : decode cL_law 629 = .ok (.iadd, 1) := by decide +kernel
theorem dL_law_630 : decode cL_law 630 = .ok (.iaload, 1) := by decide +kernel
theorem dL_law_631 : decode cL_law 631 = .ok (.aload_n 0, 1) := by decide +kernel
theorem dL_law_632 : decode cL_law 632 = .ok (.iload 4, 2) := by decide +kernel
theorem dL_law_634 : decode cL_law 634 = .ok (.iconst 3, 1) := by decide +kernel
theorem dL_law_635 : decode cL_law 635 = .ok (.iadd, 1) := by decide +kernel
theorem dL_law_636 : decode cL_law 636 = .ok (.iaload, 1) := by decide +kernel
theorem dL_law_637 : decode cL_law 637 = .ok (.i2l, 1) := by decide +kernel
theorem dL_law_638 : decode cL_law 638 = .ok (.bipush 32, 2) := by decide +kernel
theorem dL_law_640 : decode cL_law 640 = .ok (.lshl, 1) := by decide +kernel
theorem dL_law_641 : decode cL_law 641 = .ok (.aload_n 0, 1) := by decide +kernel
theorem dL_law_642 : decode cL_law 642 = .ok (.iload 4, 2) := by decide +kernel
theorem dL_law_644 : decode cL_law 644 = .ok (.iconst 4, 1) := by decide +kernel
theorem dL_law_645 : decode cL_law 645 = .ok (.iadd, 1) := by decide +kernel
theorem dL_law_646 : decode cL_law 646 = .ok (.iaload, 1) := by decide +kernel
theorem dL_law_647 : decode cL_law 647 = .ok (.i2l, 1) := by decide +kernel
theorem dL_law_648 : decode cL_law 648 = .ok (.ldc2_w 79, 3) := by decide +kernel
theorem dL_law_651 : decode cL_law 651 = .ok (.land, 1) := by decide +kernel
theorem dL_law_652 : decode cL_law 652 = .ok (.lor, 1) := by decide +kernel
theorem dL_law_653 : decode cL_law 653 = .ok (.aload_n 0, 1) := by decide +kernel
theorem dL_law_654 : decode cL_law 654 = .ok (.iload 4, 2) := by decide +kernel
theorem dL_law_656 : decode cL_law 656 = .ok (.iconst 5, 1) := by decide +kernel
theorem dL_law_657 : decode cL_law 657 = .ok (.iadd, 1) := by decide +kernel
theorem dL_law_658 : decode cL_law 658 = .ok (.iaload, 1) := by decide +kernel
theorem dL_law_659 : decode cL_law 659 = .ok (.i2l, 1) := by decide +kernel
theorem dL_law_660 : decode cL_law 660 = .ok (.bipush 32, 2) := by decide +kernel
theorem dL_law_662 : decode cL_law 662 = .ok (.lshl, 1) := by decide +kernel
theorem dL_law_663 : decode cL_law 663 = .ok (.aload_n 0, 1) := by decide +kernel
theorem dL_law_664 : decode cL_law 664 = .ok (.iload 4, 2) := by decide +kernel
theorem dL_law_666 : decode cL_law 666 = .ok (.bipush 6, 2) := by decide +kernel
theorem dL_law_668 : decode cL_law 668 = .ok (.iadd, 1) := by decide +kernel
theorem dL_law_669 : decode cL_law 669 = .ok (.iaload, 1) := by decide +kernel
theorem dL_law_670 : decode cL_law 670 = .ok (.i2l, 1) := by decide +kernel
theorem dL_law_671 : decode cL_law 671 = .ok (.ldc2_w 79, 3) := by decide +kernel
theorem dL_law_674 : decode cL_law 674 = .ok (.land, 1) := by decide +kernel
theorem dL_law_675 : decode cL_law 675 = .ok (.lor, 1) := by decide +kernel
theorem dL_law_676 : decode cL_law 676 = .ok (.aload_n 0, 1) := by decide +kernel
theorem dL_law_677 : decode cL_law 677 = .ok (.iload 4, 2) := by decide +kernel
theorem dL_law_679 : decode cL_law 679 = .ok (.bipush 7, 2) := by decide +kernel
theorem dL_law_681 : decode cL_law 681 = .ok (.iadd, 1) := by decide +kernel
theorem dL_law_682 : decode cL_law 682 = .ok (.iaload, 1) := by decide +kernel
theorem dL_law_683 : decode cL_law 683 = .ok (.aload_n 3, 1) := by decide +kernel
theorem dL_law_684 : decode cL_law 684 = .ok (.invokestatic 105, 3) := by decide +kernel
theorem dL_law_687 : decode cL_law 687 = .ok (.istore 5, 2) := by decide +kernel
theorem dL_law_689 : decode cL_law 689 = .ok (.aload_n 2, 1) := by decide +kernel
theorem dL_law_690 : decode cL_law 690 = .ok (.aload_n 0, 1) := by decide +kernel
theorem dL_law_691 : decode cL_law 691 = .ok (.iload 4, 2) := by decide +kernel
theorem dL_law_693 : decode cL_law 693 = .ok (.iconst 1, 1) := by decide +kernel
theorem dL_law_694 : decode cL_law 694 = .ok (.iadd, 1) := by decide +kernel
theorem dL_law_695 : decode cL_law 695 = .ok (.iaload, 1) := by decide +kernel
theorem dL_law_696 : decode cL_law 696 = .ok (.aload_n 0, 1) := by decide +kernel
theorem dL_law_697 : decode cL_law 697 = .ok (.iload 4, 2) := by decide +kernel
theorem dL_law_699 : decode cL_law 699 = .ok (.iconst 2, 1) := by decide +kernel
theorem dL_law_700 : decode cL_law 700 = .ok (.iadd, 1) := by decide +kernel
theorem dL_law_701 : decode cL_law 701 = .ok (.iaload, 1) := by decide +kernel
theorem dL_law_702 : decode cL_law 702 = .ok (.aload_n 0, 1) := by decide +kernel
theorem dL_law_703 : decode cL_law 703 = .ok (.iload 4, 2) := by decide +kernel
theorem dL_law_705 : decode cL_law 705 = .ok (.iconst 3, 1) := by decide +kernel
theorem dL_law_706 : decode cL_law 706 = .ok (.iadd, 1) := by decide +kernel
theorem dL_law_707 : decode cL_law 707 = .ok (.iaload, 1) := by decide +kernel
theorem dL_law_708 : decode cL_law 708 = .ok (.i2l, 1) := by decide +kernel
theorem dL_law_709 : decode cL_law 709 = .ok (.bipush 32, 2) := by decide +kernel
theorem dL_law_711 : decode cL_law 711 = .ok (.lshl, 1) := by decide +kernel
theorem dL_law_712 : decode cL_law 712 = .ok (.aload_n 0, 1) := by decide +kernel
theorem dL_law_713 : decode cL_law 713 = .ok (.iload 4, 2) := by decide +kernel
theorem dL_law_715 : decode cL_law 715 = .ok (.iconst 4, 1) := by decide +kernel
theorem dL_law_716 : decode cL_law 716 = .ok (.iadd, 1) := by decide +kernel
theorem dL_law_717 : decode cL_law 717 = .ok (.iaload, 1) := by decide +kernel
theorem dL_law_718 : decode cL_law 718 = .ok (.i2l, 1) := by decide +kernel
theorem dL_law_719 : decode cL_law 719 = .ok (.ldc2_w 79, 3) := by decide +kernel
theorem dL_law_722 : decode cL_law 722 = .ok (.land, 1) := by decide +kernel
theorem dL_law_723 : decode cL_law 723 = .ok (.lor, 1) := by decide +kernel
theorem dL_law_724 : decode cL_law 724 = .ok (.aload_n 0, 1) := by decide +kernel
theorem dL_law_725 : decode cL_law 725 = .ok (.iload 4, 2) := by decide +kernel
theorem dL_law_727 : decode cL_law 727 = .ok (.iconst 5, 1) := by decide +kernel
theorem dL_law_728 : decode cL_law 728 = .ok (.iadd, 1) := by decide +kernel
theorem dL_law_729 : decode cL_law 729 = .ok (.iaload, 1) := by decide +kernel
theorem dL_law_730 : decode cL_law 730 = .ok (.i2l, 1) := by decide +kernel
theorem dL_law_731 : decode cL_law 731 = .ok (.bipush 32, 2) := by decide +kernel
theorem dL_law_733 : decode cL_law 733 = .ok (.lshl, 1) := by decide +kernel
theorem dL_law_734 : decode cL_law 734 = .ok (.aload_n 0, 1) := by decide +kernel
theorem dL_law_735 : decode cL_law 735 = .ok (.iload 4, 2) := by decide +kernel
theorem dL_law_737 : decode cL_law 737 = .ok (.bipush 6, 2) := by decide +kernel
theorem dL_law_739 : decode cL_law 739 = .ok (.iadd, 1) := by decide +kernel
theorem dL_law_740 : decode cL_law 740 = .ok (.iaload, 1) := by decide +kernel
theorem dL_law_741 : decode cL_law 741 = .ok (.i2l, 1) := by decide +kernel
theorem dL_law_742 : decode cL_law 742 = .ok (.ldc2_w 79, 3) := by decide +kernel
theorem dL_law_745 : decode cL_law 745 = .ok (.land, 1) := by decide +kernel
theorem dL_law_746 : decode cL_law 746 = .ok (.lor, 1) := by decide +kernel
theorem dL_law_747 : decode cL_law 747 = .ok (.aload_n 0, 1) := by decide +kernel
theorem dL_law_748 : decode cL_law 748 = .ok (.iload 4, 2) := by decide +kernel
theorem dL_law_750 : decode cL_law 750 = .ok (.bipush 7, 2) := by decide +kernel
theorem dL_law_752 : decode cL_law 752 = .ok (.iadd, 1) := by decide +kernel
theorem dL_law_753 : decode cL_law 753 = .ok (.iaload, 1) := by decide +kernel
theorem dL_law_754 : decode cL_law 754 = .ok (.invokevirtual 108, 3) := by decide +kernel
theorem dL_law_757 : decode cL_law 757 = .ok (.istore 6, 2) := by decide +kernel
theorem dL_law_759 : decode cL_law 759 = .ok (.aload_n 2, 1) := by decide +kernel
theorem dL_law_760 : decode cL_law 760 = .ok (.invokevirtual 87, 3) := by decide +kernel
theorem dL_law_763 : decode cL_law 763 = .ok (.iload 5, 2) := by decide +kernel
theorem dL_law_765 : decode cL_law 765 = .ok (.if_icmp .eq 5, 3) := by decide +kernel
theorem dL_law_768 : decode cL_law 768 = .ok (.iconst 0, 1) := by decide +kernel
theorem dL_law_769 : decode cL_law 769 = .ok (.ireturn, 1) := by decide +kernel
theorem dL_law_770 : decode cL_law 770 = .ok (.iload 5, 2) := by decide +kernel
theorem dL_law_772 : decode cL_law 772 = .ok (.ifCond .ne 15, 3) := by decide +kernel
theorem dL_law_775 : decode cL_law 775 = .ok (.aload_n 3, 1) := by decide +kernel
theorem dL_law_776 : decode cL_law 776 = .ok (.iconst 0, 1) := by decide +kernel
theorem dL_law_777 : decode cL_law 777 = .ok (.laload, 1) := by decide +kernel
theorem dL_law_778 : decode cL_law 778 = .ok (.iload 6, 2) := by decide +kernel
theorem dL_law_780 : decode cL_law 780 = .ok (.i2l, 1) := by decide +kernel
theorem dL_law_781 : decode cL_law 781 = .ok (.lcmp, 1) := by decide +kernel
theorem dL_law_782 : decode cL_law 782 = .ok (.ifCond .eq 5, 3) := by decide +kernel
theorem dL_law_785 : decode cL_law 785 = .ok (.iconst 0, 1) := by decide +kernel
theorem dL_law_786 : decode cL_law 786 = .ok (.ireturn, 1) := by decide +kernel
theorem dL_law_787 : decode cL_law 787 = .ok (.goto 726, 3) := by decide +kernel
theorem dL_law_790 : decode cL_law 790 = .ok (.aload_n 1, 1) := by decide +kernel
theorem dL_law_791 : decode cL_law 791 = .ok (.aload_n 0, 1) := by decide +kernel
theorem dL_law_792 : decode cL_law 792 = .ok (.iload 4, 2) := by decide +kernel
theorem dL_law_794 : decode cL_law 794 = .ok (.iconst 1, 1) := by decide +kernel
theorem dL_law_795 : decode cL_law 795 = .ok (.iadd, 1) := by decide +kernel
theorem dL_law_796 : decode cL_law 796 = .ok (.iaload, 1) := by decide +kernel
theorem dL_law_797 : decode cL_law 797 = .ok (.aload_n 0, 1) := by decide +kernel
theorem dL_law_798 : decode cL_law 798 = .ok (.iload 4, 2) := by decide +kernel
theorem dL_law_800 : decode cL_law 800 = .ok (.iconst 2, 1) := by decide +kernel
theorem dL_law_801 : decode cL_law 801 = .ok (.iadd, 1) := by decide +kernel
theorem dL_law_802 : decode cL_law 802 = .ok (.iaload, 1) := by decide +kernel
theorem dL_law_803 : decode cL_law 803 = .ok (.aload_n 3, 1) := by decide +kernel
theorem dL_law_804 : decode cL_law 804 = .ok (.invokestatic 109, 3) := by decide +kernel
theorem dL_law_807 : decode cL_law 807 = .ok (.istore 5, 2) := by decide +kernel
theorem dL_law_809 : decode cL_law 809 = .ok (.aload_n 2, 1) := by decide +kernel
theorem dL_law_810 : decode cL_law 810 = .ok (.aload_n 0, 1) := by decide +kernel
theorem dL_law_811 : decode cL_law 811 = .ok (.iload 4, 2) := by decide +kernel
theorem dL_law_813 : decode cL_law 813 = .ok (.iconst 1, 1) := by decide +kernel
theorem dL_law_814 : decode cL_law 814 = .ok (.iadd, 1) := by decide +kernel
theorem dL_law_815 : decode cL_law 815 = .ok (.iaload, 1) := by decide +kernel
theorem dL_law_816 : decode cL_law 816 = .ok (.aload_n 0, 1) := by decide +kernel
theorem dL_law_817 : decode cL_law 817 = .ok (.iload 4, 2) := by decide +kernel
theorem dL_law_819 : decode cL_law 819 = .ok (.iconst 2, 1) := by decide +kernel
theorem dL_law_820 : decode cL_law 820 = .ok (.iadd, 1) := by decide +kernel
theorem dL_law_821 : decode cL_law 821 = .ok (.iaload, 1) := by decide +kernel
theorem dL_law_822 : decode cL_law 822 = .ok (.invokevirtual 111, 3) := by decide +kernel
theorem dL_law_825 : decode cL_law 825 = .ok (.istore 6, 2) := by decide +kernel
theorem dL_law_827 : decode cL_law 827 = .ok (.aload_n 2, 1) := by decide +kernel
theorem dL_law_828 : decode cL_law 828 = .ok (.invokevirtual 87, 3) := by decide +kernel
theorem dL_law_831 : decode cL_law 831 = .ok (.iload 5, 2) := by decide +kernel
theorem dL_law_833 : decode cL_law 833 = .ok (.if_icmp .eq 5, 3) := by decide +kernel
theorem dL_law_836 : decode cL_law 836 = .ok (.iconst 0, 1) := by decide +kernel
theorem dL_law_837 : decode cL_law 837 = .ok (.ireturn, 1) := by decide +kernel
theorem dL_law_838 : decode cL_law 838 = .ok (.iload 5, 2) := by decide +kernel
theorem dL_law_840 : decode cL_law 840 = .ok (.ifCond .ne 22, 3) := by decide +kernel
theorem dL_law_843 : decode cL_law 843 = .ok (.aload_n 3, 1) := by decide +kernel
theorem dL_law_844 : decode cL_law 844 = .ok (.iconst 0, 1) := by decide +kernel
theorem dL_law_845 : decode cL_law 845 = .ok (.laload, 1) := by decide +kernel
theorem dL_law_846 : decode cL_law 846 = .ok (.iload 6, 2) := by decide +kernel
theorem dL_law_848 : decode cL_law 848 = .ok (.ifCond .eq 7, 3) := by decide +kernel
theorem dL_law_851 : decode cL_law 851 = .ok (.lconst 1, 1) := by decide +kernel
theorem dL_law_852 : decode cL_law 852 = .ok (.goto 4, 3) := by decide +kernel
theorem dL_law_855 : decode cL_law 855 = .ok (.lconst 0, 1) := by decide +kernel
theorem dL_law_856 : decode cL_law 856 = .ok (.lcmp, 1) := by decide +kernel
theorem dL_law_857 : decode cL_law 857 = .ok (.ifCond .eq 5, 3) := by decide +kernel
theorem dL_law_860 : decode cL_law 860 = .ok (.iconst 0, 1) := by decide +kernel
theorem dL_law_861 : decode cL_law 861 = .ok (.ireturn, 1) := by decide +kernel
theorem dL_law_862 : decode cL_law 862 = .ok (.goto 651, 3) := by decide +kernel
theorem dL_law_865 : decode cL_law 865 = .ok (.aload_n 1, 1) := by decide +kernel
theorem dL_law_866 : decode cL_law 866 = .ok (.aload_n 0, 1) := by decide +kernel
theorem dL_law_867 : decode cL_law 867 = .ok (.iload 4, 2) := by decide +kernel
theorem dL_law_869 : decode cL_law 869 = .ok (.iconst 1, 1) := by decide +kernel
theorem dL_law_870 : decode cL_law 870 = .ok (.iadd, 1) := by decide +kernel
theorem dL_law_871 : decode cL_law 871 = .ok (.iaload, 1) := by decide +kernel
theorem dL_law_872 : decode cL_law 872 = .ok (.aload_n 0, 1) := by decide +kernel
theorem dL_law_873 : decode cL_law 873 = .ok (.iload 4, 2) := by decide +kernel
theorem dL_law_875 : decode cL_law 875 = .ok (.iconst 2, 1) := by decide +kernel
theorem dL_law_876 : decode cL_law 876 = .ok (.iadd, 1) := by decide +kernel
theorem dL_law_877 : decode cL_law 877 = .ok (.iaload, 1) := by decide +kernel
theorem dL_law_878 : decode cL_law 878 = .ok (.aload_n 3, 1) := by decide +kernel
theorem dL_law_879 : decode cL_law 879 = .ok (.invokestatic 112, 3) := by decide +kernel
theorem dL_law_882 : decode cL_law 882 = .ok (.istore 5, 2) := by decide +kernel
theorem dL_law_884 : decode cL_law 884 = .ok (.aload_n 2, 1) := by decide +kernel
theorem dL_law_885 : decode cL_law 885 = .ok (.aload_n 0, 1) := by decide +kernel
theorem dL_law_886 : decode cL_law 886 = .ok (.iload 4, 2) := by decide +kernel
theorem dL_law_888 : decode cL_law 888 = .ok (.iconst 1, 1) := by decide +kernel
theorem dL_law_889 : decode cL_law 889 = .ok (.iadd, 1) := by decide +kernel
theorem dL_law_890 : decode cL_law 890 = .ok (.iaload, 1) := by decide +kernel
theorem dL_law_891 : decode cL_law 891 = .ok (.aload_n 0, 1) := by decide +kernel
theorem dL_law_892 : decode cL_law 892 = .ok (.iload 4, 2) := by decide +kernel
theorem dL_law_894 : decode cL_law 894 = .ok (.iconst 2, 1) := by decide +kernel
theorem dL_law_895 : decode cL_law 895 = .ok (.iadd, 1) := by decide +kernel
theorem dL_law_896 : decode cL_law 896 = .ok (.iaload, 1) := by decide +kernel
theorem dL_law_897 : decode cL_law 897 = .ok (.invokevirtual 114, 3) := by decide +kernel
theorem dL_law_900 : decode cL_law 900 = .ok (.lstore 6, 2) := by decide +kernel
theorem dL_law_902 : decode cL_law 902 = .ok (.aload_n 2, 1) := by decide +kernel
theorem dL_law_903 : decode cL_law 903 = .ok (.invokevirtual 87, 3) := by decide +kernel
theorem dL_law_906 : decode cL_law 906 = .ok (.iload 5, 2) := by decide +kernel
theorem dL_law_908 : decode cL_law 908 = .ok (.if_icmp .eq 5, 3) := by decide +kernel
theorem dL_law_911 : decode cL_law 911 = .ok (.iconst 0, 1) := by decide +kernel
theorem dL_law_912 : decode cL_law 912 = .ok (.ireturn, 1) := by decide +kernel
theorem dL_law_913 : decode cL_law 913 = .ok (.iload 5, 2) := by decide +kernel
theorem dL_law_915 : decode cL_law 915 = .ok (.ifCond .ne 14, 3) := by decide +kernel
theorem dL_law_918 : decode cL_law 918 = .ok (.aload_n 3, 1) := by decide +kernel
theorem dL_law_919 : decode cL_law 919 = .ok (.iconst 0, 1) := by decide +kernel
theorem dL_law_920 : decode cL_law 920 = .ok (.laload, 1) := by decide +kernel
theorem dL_law_921 : decode cL_law 921 = .ok (.lload 6, 2) := by decide +kernel
theorem dL_law_923 : decode cL_law 923 = .ok (.lcmp, 1) := by decide +kernel
theorem dL_law_924 : decode cL_law 924 = .ok (.ifCond .eq 5, 3) := by decide +kernel
theorem dL_law_927 : decode cL_law 927 = .ok (.iconst 0, 1) := by decide +kernel
theorem dL_law_928 : decode cL_law 928 = .ok (.ireturn, 1) := by decide +kernel
theorem dL_law_929 : decode cL_law 929 = .ok (.goto 584, 3) := by decide +kernel
theorem dL_law_932 : decode cL_law 932 = .ok (.aload_n 1, 1) := by decide +kernel
theorem dL_law_933 : decode cL_law 933 = .ok (.aload_n 0, 1) := by decide +kernel
theorem dL_law_934 : decode cL_law 934 = .ok (.iload 4, 2) := by decide +kernel
theorem dL_law_936 : decode cL_law 936 = .ok (.iconst 1, 1) := by decide +kernel
theorem dL_law_937 : decode cL_law 937 = .ok (.iadd, 1) := by decide +kernel
theorem dL_law_938 : decode cL_law 938 = .ok (.iaload, 1) := by decide +kernel
theorem dL_law_939 : decode cL_law 939 = .ok (.aload_n 0, 1) := by decide +kernel
theorem dL_law_940 : decode cL_law 940 = .ok (.iload 4, 2) := by decide +kernel
theorem dL_law_942 : decode cL_law 942 = .ok (.iconst 2, 1) := by decide +kernel
theorem dL_law_943 : decode cL_law 943 = .ok (.iadd, 1) := by decide +kernel
theorem dL_law_944 : decode cL_law 944 = .ok (.iaload, 1) := by decide +kernel
theorem dL_law_945 : decode cL_law 945 = .ok (.aload_n 0, 1) := by decide +kernel
theorem dL_law_946 : decode cL_law 946 = .ok (.iload 4, 2) := by decide +kernel
theorem dL_law_948 : decode cL_law 948 = .ok (.iconst 3, 1) := by decide +kernel
theorem dL_law_949 : decode cL_law 949 = .ok (.iadd, 1) := by decide +kernel
theorem dL_law_950 : decode cL_law 950 = .ok (.iaload, 1) := by decide +kernel
theorem dL_law_951 : decode cL_law 951 = .ok (.aload_n 3, 1) := by decide +kernel
theorem dL_law_952 : decode cL_law 952 = .ok (.invokestatic 115, 3) := by decide +kernel
theorem dL_law_955 : decode cL_law 955 = .ok (.istore 5, 2) := by decide +kernel
theorem dL_law_957 : decode cL_law 957 = .ok (.aload_n 2, 1) := by decide +kernel
theorem dL_law_958 : decode cL_law 958 = .ok (.aload_n 0, 1) := by decide +kernel
theorem dL_law_959 : decode cL_law 959 = .ok (.iload 4, 2) := by decide +kernel
theorem dL_law_961 : decode cL_law 961 = .ok (.iconst 1, 1) := by decide +kernel
theorem dL_law_962 : decode cL_law 962 = .ok (.iadd, 1) := by decide +kernel
theorem dL_law_963 : decode cL_law 963 = .ok (.iaload, 1) := by decide +kernel
theorem dL_law_964 : decode cL_law 964 = .ok (.aload_n 0, 1) := by decide +kernel
theorem dL_law_965 : decode cL_law 965 = .ok (.iload 4, 2) := by decide +kernel
theorem dL_law_967 : decode cL_law 967 = .ok (.iconst 2, 1) := by decide +kernel
theorem dL_law_968 : decode cL_law 968 = .ok (.iadd, 1) := by decide +kernel
theorem dL_law_969 : decode cL_law 969 = .ok (.iaload, 1) := by decide +kernel
theorem dL_law_970 : decode cL_law 970 = .ok (.aload_n 0, 1) := by decide +kernel
theorem dL_law_971 : decode cL_law 971 = .ok (.iload 4, 2) := by decide +kernel
theorem dL_law_973 : decode cL_law 973 = .ok (.iconst 3, 1) := by decide +kernel
theorem dL_law_974 : decode cL_law 974 = .ok (.iadd, 1) := by decide +kernel
theorem dL_law_975 : decode cL_law 975 = .ok (.iaload, 1) := by decide +kernel
theorem dL_law_976 : decode cL_law 976 = .ok (.invokevirtual 118, 3) := by decide +kernel
theorem dL_law_979 : decode cL_law 979 = .ok (.istore 6, 2) := by decide +kernel
theorem dL_law_981 : decode cL_law 981 = .ok (.aload_n 2, 1) := by decide +kernel
theorem dL_law_982 : decode cL_law 982 = .ok (.invokevirtual 87, 3) := by decide +kernel
theorem dL_law_985 : decode cL_law 985 = .ok (.iload 5, 2) := by decide +kernel
theorem dL_law_987 : decode cL_law 987 = .ok (.if_icmp .eq 5, 3) := by decide +kernel
theorem dL_law_990 : decode cL_law 990 = .ok (.iconst 0, 1) := by decide +kernel
theorem dL_law_991 : decode cL_law 991 = .ok (.ireturn, 1) := by decide +kernel
theorem dL_law_992 : decode cL_law 992 = .ok (.iload 5, 2) := by decide +kernel
theorem dL_law_994 : decode cL_law 994 = .ok (.ifCond .ne 15, 3) := by decide +kernel
theorem dL_law_997 : decode cL_law 997 = .ok (.aload_n 3, 1) := by decide +kernel
theorem dL_law_998 : decode cL_law 998 = .ok (.iconst 0, 1) := by decide +kernel
theorem dL_law_999 : decode cL_law 999 = .ok (.laload, 1) := by decide +kernel
theorem dL_law_1000 : decode cL_law 1000 = .ok (.iload 6, 2) := by decide +kernel
theorem dL_law_1002 : decode cL_law 1002 = .ok (.i2l, 1) := by decide +kernel
theorem dL_law_1003 : decode cL_law 1003 = .ok (.lcmp, 1) := by decide +kernel
theorem dL_law_1004 : decode cL_law 1004 = .ok (.ifCond .eq 5, 3) := by decide +kernel
theorem dL_law_1007 : decode cL_law 1007 = .ok (.iconst 0, 1) := by decide +kernel
theorem dL_law_1008 : decode cL_law 1008 = .ok (.ireturn, 1) := by decide +kernel
theorem dL_law_1009 : decode cL_law 1009 = .ok (.goto 504, 3) := by decide +kernel
theorem dL_law_1012 : decode cL_law 1012 = .ok (.aload_n 1, 1) := by decide +kernel
theorem dL_law_1013 : decode cL_law 1013 = .ok (.aload_n 0, 1) := by decide +kernel
theorem dL_law_1014 : decode cL_law 1014 = .ok (.iload 4, 2) := by decide +kernel
theorem dL_law_1016 : decode cL_law 1016 = .ok (.iconst 1, 1) := by decide +kernel
theorem dL_law_1017 : decode cL_law 1017 = .ok (.iadd, 1) := by decide +kernel
theorem dL_law_1018 : decode cL_law 1018 = .ok (.iaload, 1) := by decide +kernel
theorem dL_law_1019 : decode cL_law 1019 = .ok (.aload_n 0, 1) := by decide +kernel
theorem dL_law_1020 : decode cL_law 1020 = .ok (.iload 4, 2) := by decide +kernel
theorem dL_law_1022 : decode cL_law 1022 = .ok (.iconst 2, 1) := by decide +kernel
theorem dL_law_1023 : decode cL_law 1023 = .ok (.iadd, 1) := by decide +kernel
theorem dL_law_1024 : decode cL_law 1024 = .ok (.iaload, 1) := by decide +kernel
theorem dL_law_1025 : decode cL_law 1025 = .ok (.aload_n 0, 1) := by decide +kernel
theorem dL_law_1026 : decode cL_law 1026 = .ok (.iload 4, 2) := by decide +kernel
theorem dL_law_1028 : decode cL_law 1028 = .ok (.iconst 3, 1) := by decide +kernel
theorem dL_law_1029 : decode cL_law 1029 = .ok (.iadd, 1) := by decide +kernel
theorem dL_law_1030 : decode cL_law 1030 = .ok (.iaload, 1) := by decide +kernel
theorem dL_law_1031 : decode cL_law 1031 = .ok (.aload_n 3, 1) := by decide +kernel
theorem dL_law_1032 : decode cL_law 1032 = .ok (.invokestatic 119, 3) := by decide +kernel
theorem dL_law_1035 : decode cL_law 1035 = .ok (.istore 5, 2) := by decide +kernel
theorem dL_law_1037 : decode cL_law 1037 = .ok (.aload_n 2, 1) := by decide +kernel
theorem dL_law_1038 : decode cL_law 1038 = .ok (.aload_n 0, 1) := by decide +kernel
theorem dL_law_1039 : decode cL_law 1039 = .ok (.iload 4, 2) := by decide +kernel
theorem dL_law_1041 : decode cL_law 1041 = .ok (.iconst 1, 1) := by decide +kernel
theorem dL_law_1042 : decode cL_law 1042 = .ok (.iadd, 1) := by decide +kernel
theorem dL_law_1043 : decode cL_law 1043 = .ok (.iaload, 1) := by decide +kernel
theorem dL_law_1044 : decode cL_law 1044 = .ok (.aload_n 0, 1) := by decide +kernel
theorem dL_law_1045 : decode cL_law 1045 = .ok (.iload 4, 2) := by decide +kernel
theorem dL_law_1047 : decode cL_law 1047 = .ok (.iconst 2, 1) := by decide +kernel
theorem dL_law_1048 : decode cL_law 1048 = .ok (.iadd, 1) := by decide +kernel
theorem dL_law_1049 : decode cL_law 1049 = .ok (.iaload, 1) := by decide +kernel
theorem dL_law_1050 : decode cL_law 1050 = .ok (.aload_n 0, 1) := by decide +kernel
theorem dL_law_1051 : decode cL_law 1051 = .ok (.iload 4, 2) := by decide +kernel
theorem dL_law_1053 : decode cL_law 1053 = .ok (.iconst 3, 1) := by decide +kernel
theorem dL_law_1054 : decode cL_law 1054 = .ok (.iadd, 1) := by decide +kernel
theorem dL_law_1055 : decode cL_law 1055 = .ok (.iaload, 1) := by decide +kernel
theorem dL_law_1056 : decode cL_law 1056 = .ok (.invokevirtual 121, 3) := by decide +kernel
theorem dL_law_1059 : decode cL_law 1059 = .ok (.lstore 6, 2) := by decide +kernel
theorem dL_law_1061 : decode cL_law 1061 = .ok (.aload_n 2, 1) := by decide +kernel
theorem dL_law_1062 : decode cL_law 1062 = .ok (.invokevirtual 87, 3) := by decide +kernel
theorem dL_law_1065 : decode cL_law 1065 = .ok (.iload 5, 2) := by decide +kernel
theorem dL_law_1067 : decode cL_law 1067 = .ok (.if_icmp .eq 5, 3) := by decide +kernel
theorem dL_law_1070 : decode cL_law 1070 = .ok (.iconst 0, 1) := by decide +kernel
theorem dL_law_1071 : decode cL_law 1071 = .ok (.ireturn, 1) := by decide +kernel
theorem dL_law_1072 : decode cL_law 1072 = .ok (.iload 5, 2) := by decide +kernel
theorem dL_law_1074 : decode cL_law 1074 = .ok (.ifCond .ne 14, 3) := by decide +kernel
theorem dL_law_1077 : decode cL_law 1077 = .ok (.aload_n 3, 1) := by decide +kernel
theorem dL_law_1078 : decode cL_law 1078 = .ok (.iconst 0, 1) := by decide +kernel
theorem dL_law_1079 : decode cL_law 1079 = .ok (.laload, 1) := by decide +kernel
theorem dL_law_1080 : decode cL_law 1080 = .ok (.lload 6, 2) := by decide +kernel
theorem dL_law_1082 : decode cL_law 1082 = .ok (.lcmp, 1) := by decide +kernel
theorem dL_law_1083 : decode cL_law 1083 = .ok (.ifCond .eq 5, 3) := by decide +kernel
theorem dL_law_1086 : decode cL_law 1086 = .ok (.iconst 0, 1) := by decide +kernel
theorem dL_law_1087 : decode cL_law 1087 = .ok (.ireturn, 1) := by decide +kernel
theorem dL_law_1088 : decode cL_law 1088 = .ok (.goto 425, 3) := by decide +kernel
theorem dL_law_1091 : decode cL_law 1091 = .ok (.aload_n 1, 1) := by decide +kernel
theorem dL_law_1092 : decode cL_law 1092 = .ok (.aload_n 0, 1) := by decide +kernel
theorem dL_law_1093 : decode cL_law 1093 = .ok (.iload 4, 2) := by decide +kernel
theorem dL_law_1095 : decode cL_law 1095 = .ok (.iconst 1, 1) := by decide +kernel
theorem dL_law_1096 : decode cL_law 1096 = .ok (.iadd, 1) := by decide +kernel
theorem dL_law_1097 : decode cL_law 1097 = .ok (.iaload, 1) := by decide +kernel
theorem dL_law_1098 : decode cL_law 1098 = .ok (.aload_n 0, 1) := by decide +kernel
theorem dL_law_1099 : decode cL_law 1099 = .ok (.iload 4, 2) := by decide +kernel
theorem dL_law_1101 : decode cL_law 1101 = .ok (.iconst 2, 1) := by decide +kernel
theorem dL_law_1102 : decode cL_law 1102 = .ok (.iadd, 1) := by decide +kernel
theorem dL_law_1103 : decode cL_law 1103 = .ok (.iaload, 1) := by decide +kernel
theorem dL_law_1104 : decode cL_law 1104 = .ok (.aload_n 0, 1) := by decide +kernel
theorem dL_law_1105 : decode cL_law 1105 = .ok (.iload 4, 2) := by decide +kernel
theorem dL_law_1107 : decode cL_law 1107 = .ok (.iconst 3, 1) := by decide +kernel
theorem dL_law_1108 : decode cL_law 1108 = .ok (.iadd, 1) := by decide +kernel
theorem dL_law_1109 : decode cL_law 1109 = .ok (.iaload, 1) := by decide +kernel
theorem dL_law_1110 : decode cL_law 1110 = .ok (.aload_n 3, 1) := by decide +kernel
theorem dL_law_1111 : decode cL_law 1111 = .ok (.invokestatic 122, 3) := by decide +kernel
theorem dL_law_1114 : decode cL_law 1114 = .ok (.istore 5, 2) := by decide +kernel
theorem dL_law_1116 : decode cL_law 1116 = .ok (.aload_n 2, 1) := by decide +kernel
theorem dL_law_1117 : decode cL_law 1117 = .ok (.aload_n 0, 1) := by decide +kernel
theorem dL_law_1118 : decode cL_law 1118 = .ok (.iload 4, 2) := by decide +kernel
theorem dL_law_1120 : decode cL_law 1120 = .ok (.iconst 1, 1) := by decide +kernel
theorem dL_law_1121 : decode cL_law 1121 = .ok (.iadd, 1) := by decide +kernel
theorem dL_law_1122 : decode cL_law 1122 = .ok (.iaload, 1) := by decide +kernel
theorem dL_law_1123 : decode cL_law 1123 = .ok (.aload_n 0, 1) := by decide +kernel
theorem dL_law_1124 : decode cL_law 1124 = .ok (.iload 4, 2) := by decide +kernel
theorem dL_law_1126 : decode cL_law 1126 = .ok (.iconst 2, 1) := by decide +kernel
theorem dL_law_1127 : decode cL_law 1127 = .ok (.iadd, 1) := by decide +kernel
theorem dL_law_1128 : decode cL_law 1128 = .ok (.iaload, 1) := by decide +kernel
theorem dL_law_1129 : decode cL_law 1129 = .ok (.aload_n 0, 1) := by decide +kernel
theorem dL_law_1130 : decode cL_law 1130 = .ok (.iload 4, 2) := by decide +kernel
theorem dL_law_1132 : decode cL_law 1132 = .ok (.iconst 3, 1) := by decide +kernel
theorem dL_law_1133 : decode cL_law 1133 = .ok (.iadd, 1) := by decide +kernel
theorem dL_law_1134 : decode cL_law 1134 = .ok (.iaload, 1) := by decide +kernel
theorem dL_law_1135 : decode cL_law 1135 = .ok (.invokevirtual 124, 3) := by decide +kernel
theorem dL_law_1138 : decode cL_law 1138 = .ok (.istore 6, 2) := by decide +kernel
theorem dL_law_1140 : decode cL_law 1140 = .ok (.aload_n 2, 1) := by decide +kernel
theorem dL_law_1141 : decode cL_law 1141 = .ok (.invokevirtual 87, 3) := by decide +kernel
theorem dL_law_1144 : decode cL_law 1144 = .ok (.iload 5, 2) := by decide +kernel
theorem dL_law_1146 : decode cL_law 1146 = .ok (.if_icmp .eq 5, 3) := by decide +kernel
theorem dL_law_1149 : decode cL_law 1149 = .ok (.iconst 0, 1) := by decide +kernel
theorem dL_law_1150 : decode cL_law 1150 = .ok (.ireturn, 1) := by decide +kernel
theorem dL_law_1151 : decode cL_law 1151 = .ok (.iload 5, 2) := by decide +kernel
theorem dL_law_1153 : decode cL_law 1153 = .ok (.ifCond .ne 15, 3) := by decide +kernel
theorem dL_law_1156 : decode cL_law 1156 = .ok (.aload_n 3, 1) := by decide +kernel
theorem dL_law_1157 : decode cL_law 1157 = .ok (.iconst 0, 1) := by decide +kernel
theorem dL_law_1158 : decode cL_law 1158 = .ok (.laload, 1) := by decide +kernel
theorem dL_law_1159 : decode cL_law 1159 = .ok (.iload 6, 2) := by decide +kernel
theorem dL_law_1161 : decode cL_law 1161 = .ok (.i2l, 1) := by decide +kernel
theorem dL_law_1162 : decode cL_law 1162 = .ok (.lcmp, 1) := by decide +kernel
theorem dL_law_1163 : decode cL_law 1163 = .ok (.ifCond .eq 5, 3) := by decide +kernel
theorem dL_law_1166 : decode cL_law 1166 = .ok (.iconst 0, 1) := by decide +kernel
theorem dL_law_1167 : decode cL_law 1167 = .ok (.ireturn, 1) := by decide +kernel
theorem dL_law_1168 : decode cL_law 1168 = .ok (.goto 345, 3) := by decide +kernel
theorem dL_law_1171 : decode cL_law 1171 = .ok (.aload_n 1, 1) := by decide +kernel
theorem dL_law_1172 : decode cL_law 1172 = .ok (.aload_n 0, 1) := by decide +kernel
theorem dL_law_1173 : decode cL_law 1173 = .ok (.iload 4, 2) := by decide +kernel
theorem dL_law_1175 : decode cL_law 1175 = .ok (.iconst 1, 1) := by decide +kernel
theorem dL_law_1176 : decode cL_law 1176 = .ok (.iadd, 1) := by decide +kernel
theorem dL_law_1177 : decode cL_law 1177 = .ok (.iaload, 1) := by decide +kernel
theorem dL_law_1178 : decode cL_law 1178 = .ok (.invokestatic 125, 3) := by decide +kernel
theorem dL_law_1181 : decode cL_law 1181 = .ok (.istore 5, 2) := by decide +kernel
theorem dL_law_1183 : decode cL_law 1183 = .ok (.aload_n 2, 1) := by decide +kernel
theorem dL_law_1184 : decode cL_law 1184 = .ok (.aload_n 0, 1) := by decide +kernel
theorem dL_law_1185 : decode cL_law 1185 = .ok (.iload 4, 2) := by decide +kernel
theorem dL_law_1187 : decode cL_law 1187 = .ok (.iconst 1, 1) := by decide +kernel
theorem dL_law_1188 : decode cL_law 1188 = .ok (.iadd, 1) := by decide +kernel
theorem dL_law_1189 : decode cL_law 1189 = .ok (.iaload, 1) := by decide +kernel
theorem dL_law_1190 : decode cL_law 1190 = .ok (.invokevirtual 128, 3) := by decide +kernel
theorem dL_law_1193 : decode cL_law 1193 = .ok (.aload_n 2, 1) := by decide +kernel
theorem dL_law_1194 : decode cL_law 1194 = .ok (.invokevirtual 87, 3) := by decide +kernel
theorem dL_law_1197 : decode cL_law 1197 = .ok (.iload 5, 2) := by decide +kernel
theorem dL_law_1199 : decode cL_law 1199 = .ok (.if_icmp .eq 5, 3) := by decide +kernel
theorem dL_law_1202 : decode cL_law 1202 = .ok (.iconst 0, 1) := by decide +kernel
theorem dL_law_1203 : decode cL_law 1203 = .ok (.ireturn, 1) := by decide +kernel
theorem dL_law_1204 : decode cL_law 1204 = .ok (.goto 309, 3) := by decide +kernel
theorem dL_law_1207 : decode cL_law 1207 = .ok (.aload_n 1, 1) := by decide +kernel
theorem dL_law_1208 : decode cL_law 1208 = .ok (.aload_n 0, 1) := by decide +kernel
theorem dL_law_1209 : decode cL_law 1209 = .ok (.iload 4, 2) := by decide +kernel
theorem dL_law_1211 : decode cL_law 1211 = .ok (.iconst 1, 1) := by decide +kernel
theorem dL_law_1212 : decode cL_law 1212 = .ok (.iadd, 1) := by decide +kernel
theorem dL_law_1213 : decode cL_law 1213 = .ok (.iaload, 1) := by decide +kernel
theorem dL_law_1214 : decode cL_law 1214 = .ok (.aload_n 3, 1) := by decide +kernel
theorem dL_law_1215 : decode cL_law 1215 = .ok (.invokestatic 129, 3) := by decide +kernel
theorem dL_law_1218 : decode cL_law 1218 = .ok (.istore 5, 2) := by decide +kernel
theorem dL_law_1220 : decode cL_law 1220 = .ok (.aload_n 2, 1) := by decide +kernel
theorem dL_law_1221 : decode cL_law 1221 = .ok (.aload_n 0, 1) := by decide +kernel
theorem dL_law_1222 : decode cL_law 1222 = .ok (.iload 4, 2) := by decide +kernel
theorem dL_law_1224 : decode cL_law 1224 = .ok (.iconst 1, 1) := by decide +kernel
theorem dL_law_1225 : decode cL_law 1225 = .ok (.iadd, 1) := by decide +kernel
theorem dL_law_1226 : decode cL_law 1226 = .ok (.iaload, 1) := by decide +kernel
theorem dL_law_1227 : decode cL_law 1227 = .ok (.invokevirtual 132, 3) := by decide +kernel
theorem dL_law_1230 : decode cL_law 1230 = .ok (.istore 6, 2) := by decide +kernel
theorem dL_law_1232 : decode cL_law 1232 = .ok (.aload_n 2, 1) := by decide +kernel
theorem dL_law_1233 : decode cL_law 1233 = .ok (.invokevirtual 87, 3) := by decide +kernel
theorem dL_law_1236 : decode cL_law 1236 = .ok (.iload 5, 2) := by decide +kernel
theorem dL_law_1238 : decode cL_law 1238 = .ok (.if_icmp .eq 5, 3) := by decide +kernel
theorem dL_law_1241 : decode cL_law 1241 = .ok (.iconst 0, 1) := by decide +kernel
theorem dL_law_1242 : decode cL_law 1242 = .ok (.ireturn, 1) := by decide +kernel
theorem dL_law_1243 : decode cL_law 1243 = .ok (.iload 5, 2) := by decide +kernel
theorem dL_law_1245 : decode cL_law 1245 = .ok (.ifCond .ne 22, 3) := by decide +kernel
theorem dL_law_1248 : decode cL_law 1248 = .ok (.aload_n 3, 1) := by decide +kernel
theorem dL_law_1249 : decode cL_law 1249 = .ok (.iconst 0, 1) := by decide +kernel
theorem dL_law_1250 : decode cL_law 1250 = .ok (.laload, 1) := by decide +kernel
theorem dL_law_1251 : decode cL_law 1251 = .ok (.iload 6, 2) := by decide +kernel
theorem dL_law_1253 : decode cL_law 1253 = .ok (.ifCond .eq 7, 3) := by decide +kernel
theorem dL_law_1256 : decode cL_law 1256 = .ok (.lconst 1, 1) := by decide +kernel
theorem dL_law_1257 : decode cL_law 1257 = .ok (.goto 4, 3) := by decide +kernel
theorem dL_law_1260 : decode cL_law 1260 = .ok (.lconst 0, 1) := by decide +kernel
theorem dL_law_1261 : decode cL_law 1261 = .ok (.lcmp, 1) := by decide +kernel
theorem dL_law_1262 : decode cL_law 1262 = .ok (.ifCond .eq 5, 3) := by decide +kernel
theorem dL_law_1265 : decode cL_law 1265 = .ok (.iconst 0, 1) := by decide +kernel
theorem dL_law_1266 : decode cL_law 1266 = .ok (.ireturn, 1) := by decide +kernel
theorem dL_law_1267 : decode cL_law 1267 = .ok (.goto 246, 3) := by decide +kernel
theorem dL_law_1270 : decode cL_law 1270 = .ok (.aload_n 1, 1) := by decide +kernel
theorem dL_law_1271 : decode cL_law 1271 = .ok (.aload_n 0, 1) := by decide +kernel
theorem dL_law_1272 : decode cL_law 1272 = .ok (.iload 4, 2) := by decide +kernel
theorem dL_law_1274 : decode cL_law 1274 = .ok (.iconst 1, 1) := by decide +kernel
theorem dL_law_1275 : decode cL_law 1275 = .ok (.iadd, 1) := by decide +kernel
theorem dL_law_1276 : decode cL_law 1276 = .ok (.iaload, 1) := by decide +kernel
theorem dL_law_1277 : decode cL_law 1277 = .ok (.aload_n 3, 1) := by decide +kernel
theorem dL_law_1278 : decode cL_law 1278 = .ok (.invokestatic 133, 3) := by decide +kernel
theorem dL_law_1281 : decode cL_law 1281 = .ok (.istore 5, 2) := by decide +kernel
theorem dL_law_1283 : decode cL_law 1283 = .ok (.aload_n 2, 1) := by decide +kernel
theorem dL_law_1284 : decode cL_law 1284 = .ok (.aload_n 0, 1) := by decide +kernel
theorem dL_law_1285 : decode cL_law 1285 = .ok (.iload 4, 2) := by decide +kernel
theorem dL_law_1287 : decode cL_law 1287 = .ok (.iconst 1, 1) := by decide +kernel
theorem dL_law_1288 : decode cL_law 1288 = .ok (.iadd, 1) := by decide +kernel
theorem dL_law_1289 : decode cL_law 1289 = .ok (.iaload, 1) := by decide +kernel
theorem dL_law_1290 : decode cL_law 1290 = .ok (.invokevirtual 135, 3) := by decide +kernel
theorem dL_law_1293 : decode cL_law 1293 = .ok (.istore 6, 2) := by decide +kernel
theorem dL_law_1295 : decode cL_law 1295 = .ok (.aload_n 2, 1) := by decide +kernel
theorem dL_law_1296 : decode cL_law 1296 = .ok (.invokevirtual 87, 3) := by decide +kernel
theorem dL_law_1299 : decode cL_law 1299 = .ok (.iload 5, 2) := by decide +kernel
theorem dL_law_1301 : decode cL_law 1301 = .ok (.if_icmp .eq 5, 3) := by decide +kernel
theorem dL_law_1304 : decode cL_law 1304 = .ok (.iconst 0, 1) := by decide +kernel
theorem dL_law_1305 : decode cL_law 1305 = .ok (.ireturn, 1) := by decide +kernel
theorem dL_law_1306 : decode cL_law 1306 = .ok (.iload 5, 2) := by decide +kernel
theorem dL_law_1308 : decode cL_law 1308 = .ok (.ifCond .ne 15, 3) := by decide +kernel
theorem dL_law_1311 : decode cL_law 1311 = .ok (.aload_n 3, 1) := by decide +kernel
theorem dL_law_1312 : decode cL_law 1312 = .ok (.iconst 0, 1) := by decide +kernel
theorem dL_law_1313 : decode cL_law 1313 = .ok (.laload, 1) := by decide +kernel
theorem dL_law_1314 : decode cL_law 1314 = .ok (.iload 6, 2) := by decide +kernel
theorem dL_law_1316 : decode cL_law 1316 = .ok (.i2l, 1) := by decide +kernel
theorem dL_law_1317 : decode cL_law 1317 = .ok (.lcmp, 1) := by decide +kernel
theorem dL_law_1318 : decode cL_law 1318 = .ok (.ifCond .eq 5, 3) := by decide +kernel
theorem dL_law_1321 : decode cL_law 1321 = .ok (.iconst 0, 1) := by decide +kernel
theorem dL_law_1322 : decode cL_law 1322 = .ok (.ireturn, 1) := by decide +kernel
theorem dL_law_1323 : decode cL_law 1323 = .ok (.goto 190, 3) := by decide +kernel
theorem dL_law_1326 : decode cL_law 1326 = .ok (.aload_n 1, 1) := by decide +kernel
theorem dL_law_1327 : decode cL_law 1327 = .ok (.aload_n 0, 1) := by decide +kernel
theorem dL_law_1328 : decode cL_law 1328 = .ok (.iload 4, 2) := by decide +kernel
theorem dL_law_1330 : decode cL_law 1330 = .ok (.iconst 1, 1) := by decide +kernel
theorem dL_law_1331 : decode cL_law 1331 = .ok (.iadd, 1) := by decide +kernel
theorem dL_law_1332 : decode cL_law 1332 = .ok (.iaload, 1) := by decide +kernel
theorem dL_law_1333 : decode cL_law 1333 = .ok (.aload_n 0, 1) := by decide +kernel
theorem dL_law_1334 : decode cL_law 1334 = .ok (.iload 4, 2) := by decide +kernel
theorem dL_law_1336 : decode cL_law 1336 = .ok (.iconst 2, 1) := by decide +kernel
theorem dL_law_1337 : decode cL_law 1337 = .ok (.iadd, 1) := by decide +kernel
theorem dL_law_1338 : decode cL_law 1338 = .ok (.iaload, 1) := by decide +kernel
theorem dL_law_1339 : decode cL_law 1339 = .ok (.aload_n 3, 1) := by decide +kernel
theorem dL_law_1340 : decode cL_law 1340 = .ok (.invokestatic 136, 3) := by decide +kernel
theorem dL_law_1343 : decode cL_law 1343 = .ok (.istore 5, 2) := by decide +kernel
theorem dL_law_1345 : decode cL_law 1345 = .ok (.aload_n 2, 1) := by decide +kernel
theorem dL_law_1346 : decode cL_law 1346 = .ok (.aload_n 0, 1) := by decide +kernel
theorem dL_law_1347 : decode cL_law 1347 = .ok (.iload 4, 2) := by decide +kernel
theorem dL_law_1349 : decode cL_law 1349 = .ok (.iconst 1, 1) := by decide +kernel
theorem dL_law_1350 : decode cL_law 1350 = .ok (.iadd, 1) := by decide +kernel
theorem dL_law_1351 : decode cL_law 1351 = .ok (.iaload, 1) := by decide +kernel
theorem dL_law_1352 : decode cL_law 1352 = .ok (.aload_n 0, 1) := by decide +kernel
theorem dL_law_1353 : decode cL_law 1353 = .ok (.iload 4, 2) := by decide +kernel
theorem dL_law_1355 : decode cL_law 1355 = .ok (.iconst 2, 1) := by decide +kernel
theorem dL_law_1356 : decode cL_law 1356 = .ok (.iadd, 1) := by decide +kernel
theorem dL_law_1357 : decode cL_law 1357 = .ok (.iaload, 1) := by decide +kernel
theorem dL_law_1358 : decode cL_law 1358 = .ok (.invokevirtual 138, 3) := by decide +kernel
theorem dL_law_1361 : decode cL_law 1361 = .ok (.istore 6, 2) := by decide +kernel
theorem dL_law_1363 : decode cL_law 1363 = .ok (.aload_n 2, 1) := by decide +kernel
theorem dL_law_1364 : decode cL_law 1364 = .ok (.invokevirtual 87, 3) := by decide +kernel
theorem dL_law_1367 : decode cL_law 1367 = .ok (.iload 5, 2) := by decide +kernel
theorem dL_law_1369 : decode cL_law 1369 = .ok (.if_icmp .eq 5, 3) := by decide +kernel
theorem dL_law_1372 : decode cL_law 1372 = .ok (.iconst 0, 1) := by decide +kernel
theorem dL_law_1373 : decode cL_law 1373 = .ok (.ireturn, 1) := by decide +kernel
theorem dL_law_1374 : decode cL_law 1374 = .ok (.iload 5, 2) := by decide +kernel
theorem dL_law_1376 : decode cL_law 1376 = .ok (.ifCond .ne 15, 3) := by decide +kernel
theorem dL_law_1379 : decode cL_law 1379 = .ok (.aload_n 3, 1) := by decide +kernel
theorem dL_law_1380 : decode cL_law 1380 = .ok (.iconst 0, 1) := by decide +kernel
theorem dL_law_1381 : decode cL_law 1381 = .ok (.laload, 1) := by decide +kernel
theorem dL_law_1382 : decode cL_law 1382 = .ok (.iload 6, 2) := by decide +kernel
theorem dL_law_1384 : decode cL_law 1384 = .ok (.i2l, 1) := by decide +kernel
theorem dL_law_1385 : decode cL_law 1385 = .ok (.lcmp, 1) := by decide +kernel
theorem dL_law_1386 : decode cL_law 1386 = .ok (.ifCond .eq 5, 3) := by decide +kernel
theorem dL_law_1389 : decode cL_law 1389 = .ok (.iconst 0, 1) := by decide +kernel
theorem dL_law_1390 : decode cL_law 1390 = .ok (.ireturn, 1) := by decide +kernel
theorem dL_law_1391 : decode cL_law 1391 = .ok (.goto 122, 3) := by decide +kernel
theorem dL_law_1394 : decode cL_law 1394 = .ok (.aload_n 1, 1) := by decide +kernel
theorem dL_law_1395 : decode cL_law 1395 = .ok (.invokevirtual 139, 3) := by decide +kernel
theorem dL_law_1398 : decode cL_law 1398 = .ok (.aload_n 2, 1) := by decide +kernel
theorem dL_law_1399 : decode cL_law 1399 = .ok (.invokevirtual 142, 3) := by decide +kernel
theorem dL_law_1402 : decode cL_law 1402 = .ok (.goto 111, 3) := by decide +kernel
theorem dL_law_1405 : decode cL_law 1405 = .ok (.aload_n 1, 1) := by decide +kernel
theorem dL_law_1406 : decode cL_law 1406 = .ok (.invokevirtual 143, 3) := by decide +kernel
theorem dL_law_1409 : decode cL_law 1409 = .ok (.aload_n 2, 1) := by decide +kernel
theorem dL_law_1410 : decode cL_law 1410 = .ok (.invokevirtual 146, 3) := by decide +kernel
theorem dL_law_1413 : decode cL_law 1413 = .ok (.if_icmp .eq 100, 3) := by decide +kernel
theorem dL_law_1416 : decode cL_law 1416 = .ok (.iconst 0, 1) := by decide +kernel
theorem dL_law_1417 : decode cL_law 1417 = .ok (.ireturn, 1) := by decide +kernel
theorem dL_law_1418 : decode cL_law 1418 = .ok (.aload_n 1, 1) := by decide +kernel
theorem dL_law_1419 : decode cL_law 1419 = .ok (.invokevirtual 147, 3) := by decide +kernel
theorem dL_law_1422 : decode cL_law 1422 = .ok (.aload_n 2, 1) := by decide +kernel
theorem dL_law_1423 : decode cL_law 1423 = .ok (.invokevirtual 150, 3) := by decide +kernel
theorem dL_law_1426 : decode cL_law 1426 = .ok (.if_icmp .eq 87, 3) := by decide +kernel
theorem dL_law_1429 : decode cL_law 1429 = .ok (.iconst 0, 1) := by decide +kernel
theorem dL_law_1430 : decode cL_law 1430 = .ok (.ireturn, 1) := by decide +kernel
theorem dL_law_1431 : decode cL_law 1431 = .ok (.aload_n 1, 1) := by decide +kernel
theorem dL_law_1432 : decode cL_law 1432 = .ok (.invokevirtual 151, 3) := by decide +kernel
theorem dL_law_1435 : decode cL_law 1435 = .ok (.aload_n 2, 1) := by decide +kernel
theorem dL_law_1436 : decode cL_law 1436 = .ok (.invokevirtual 154, 3) := by decide +kernel
theorem dL_law_1439 : decode cL_law 1439 = .ok (.if_icmp .eq 74, 3) := by decide +kernel
theorem dL_law_1442 : decode cL_law 1442 = .ok (.iconst 0, 1) := by decide +kernel
theorem dL_law_1443 : decode cL_law 1443 = .ok (.ireturn, 1) := by decide +kernel
theorem dL_law_1444 : decode cL_law 1444 = .ok (.aload_n 1, 1) := by decide +kernel
theorem dL_law_1445 : decode cL_law 1445 = .ok (.aload_n 0, 1) := by decide +kernel
theorem dL_law_1446 : decode cL_law 1446 = .ok (.iload 4, 2) := by decide +kernel
theorem dL_law_1448 : decode cL_law 1448 = .ok (.iconst 1, 1) := by decide +kernel
theorem dL_law_1449 : decode cL_law 1449 = .ok (.iadd, 1) := by decide +kernel
theorem dL_law_1450 : decode cL_law 1450 = .ok (.iaload, 1) := by decide +kernel
theorem dL_law_1451 : decode cL_law 1451 = .ok (.aload_n 3, 1) := by decide +kernel
theorem dL_law_1452 : decode cL_law 1452 = .ok (.invokestatic 155, 3) := by decide +kernel
theorem dL_law_1455 : decode cL_law 1455 = .ok (.istore 5, 2) := by decide +kernel
theorem dL_law_1457 : decode cL_law 1457 = .ok (.aload_n 2, 1) := by decide +kernel
theorem dL_law_1458 : decode cL_law 1458 = .ok (.aload_n 0, 1) := by decide +kernel
theorem dL_law_1459 : decode cL_law 1459 = .ok (.iload 4, 2) := by decide +kernel
theorem dL_law_1461 : decode cL_law 1461 = .ok (.iconst 1, 1) := by decide +kernel
theorem dL_law_1462 : decode cL_law 1462 = .ok (.iadd, 1) := by decide +kernel
theorem dL_law_1463 : decode cL_law 1463 = .ok (.iaload, 1) := by decide +kernel
theorem dL_law_1464 : decode cL_law 1464 = .ok (.invokevirtual 157, 3) := by decide +kernel
theorem dL_law_1467 : decode cL_law 1467 = .ok (.istore 6, 2) := by decide +kernel
theorem dL_law_1469 : decode cL_law 1469 = .ok (.aload_n 2, 1) := by decide +kernel
theorem dL_law_1470 : decode cL_law 1470 = .ok (.invokevirtual 87, 3) := by decide +kernel
theorem dL_law_1473 : decode cL_law 1473 = .ok (.iload 5, 2) := by decide +kernel
theorem dL_law_1475 : decode cL_law 1475 = .ok (.if_icmp .eq 5, 3) := by decide +kernel
theorem dL_law_1478 : decode cL_law 1478 = .ok (.iconst 0, 1) := by decide +kernel
theorem dL_law_1479 : decode cL_law 1479 = .ok (.ireturn, 1) := by decide +kernel
theorem dL_law_1480 : decode cL_law 1480 = .ok (.iload 5, 2) := by decide +kernel
theorem dL_law_1482 : decode cL_law 1482 = .ok (.ifCond .ne 15, 3) := by decide +kernel
theorem dL_law_1485 : decode cL_law 1485 = .ok (.aload_n 3, 1) := by decide +kernel
theorem dL_law_1486 : decode cL_law 1486 = .ok (.iconst 0, 1) := by decide +kernel
theorem dL_law_1487 : decode cL_law 1487 = .ok (.laload, 1) := by decide +kernel
theorem dL_law_1488 : decode cL_law 1488 = .ok (.iload 6, 2) := by decide +kernel
theorem dL_law_1490 : decode cL_law 1490 = .ok (.i2l, 1) := by decide +kernel
theorem dL_law_1491 : decode cL_law 1491 = .ok (.lcmp, 1) := by decide +kernel
theorem dL_law_1492 : decode cL_law 1492 = .ok (.ifCond .eq 5, 3) := by decide +kernel
theorem dL_law_1495 : decode cL_law 1495 = .ok (.iconst 0, 1) := by decide +kernel
theorem dL_law_1496 : decode cL_law 1496 = .ok (.ireturn, 1) := by decide +kernel
theorem dL_law_1497 : decode cL_law 1497 = .ok (.goto 16, 3) := by decide +kernel
theorem dL_law_1500 : decode cL_law 1500 = .ok (.aload_n 1, 1) := by decide +kernel
theorem dL_law_1501 : decode cL_law 1501 = .ok (.invokevirtual 158, 3) := by decide +kernel
theorem dL_law_1504 : decode cL_law 1504 = .ok (.aload_n 2, 1) := by decide +kernel
theorem dL_law_1505 : decode cL_law 1505 = .ok (.invokevirtual 162, 3) := by decide +kernel
theorem dL_law_1508 : decode cL_law 1508 = .ok (.if_icmp .eq 5, 3) := by decide +kernel
theorem dL_law_1511 : decode cL_law 1511 = .ok (.iconst 0, 1) := by decide +kernel
theorem dL_law_1512 : decode cL_law 1512 = .ok (.ireturn, 1) := by decide +kernel
theorem dL_law_1513 : decode cL_law 1513 = .ok (.iinc 4 8, 3) := by decide +kernel
theorem dL_law_1516 : decode cL_law 1516 = .ok (.goto (-1493), 3) := by decide +kernel
theorem dL_law_1519 : decode cL_law 1519 = .ok (.iconst 1, 1) := by decide +kernel
theorem dL_law_1520 : decode cL_law 1520 = .ok (.ireturn, 1) := by decide +kernel
