/-! printed by wip/gen/lgen.py: the cases of the law -/
theorem d_law_128 : decode code 128 = .ok (.aload_n 1, 1) := by decide +kernel
theorem d_law_129 : decode code 129 = .ok (.aload_n 0, 1) := by decide +kernel
theorem d_law_130 : decode code 130 = .ok (.iload 4, 2) := by decide +kernel
theorem d_law_132 : decode code 132 = .ok (.iconst 1, 1) := by decide +kernel
theorem d_law_133 : decode code 133 = .ok (.iadd, 1) := by decide +kernel
theorem d_law_134 : decode code 134 = .ok (.iaload, 1) := by decide +kernel
theorem d_law_135 : decode code 135 = .ok (.aload_n 3, 1) := by decide +kernel
theorem d_law_136 : decode code 136 = .ok (.invokestatic 67, 3) := by decide +kernel
theorem d_law_139 : decode code 139 = .ok (.istore 5, 2) := by decide +kernel
theorem d_law_141 : decode code 141 = .ok (.aload_n 2, 1) := by decide +kernel
theorem d_law_142 : decode code 142 = .ok (.aload_n 0, 1) := by decide +kernel
theorem d_law_143 : decode code 143 = .ok (.iload 4, 2) := by decide +kernel
theorem d_law_145 : decode code 145 = .ok (.iconst 1, 1) := by decide +kernel
theorem d_law_146 : decode code 146 = .ok (.iadd, 1) := by decide +kernel
theorem d_law_147 : decode code 147 = .ok (.iaload, 1) := by decide +kernel
theorem d_law_148 : decode code 148 = .ok (.invokevirtual 72, 3) := by decide +kernel
theorem d_law_151 : decode code 151 = .ok (.istore 6, 2) := by decide +kernel
theorem d_law_153 : decode code 153 = .ok (.aload_n 2, 1) := by decide +kernel
theorem d_law_154 : decode code 154 = .ok (.invokevirtual 73, 3) := by decide +kernel
theorem d_law_157 : decode code 157 = .ok (.iload 5, 2) := by decide +kernel
theorem d_law_159 : decode code 159 = .ok (.if_icmp .eq 5, 3) := by decide +kernel
theorem d_law_162 : decode code 162 = .ok (.iconst 0, 1) := by decide +kernel
theorem d_law_164 : decode code 164 = .ok (.iload 5, 2) := by decide +kernel
theorem d_law_166 : decode code 166 = .ok (.ifCond .ne 15, 3) := by decide +kernel
theorem d_law_169 : decode code 169 = .ok (.aload_n 3, 1) := by decide +kernel
theorem d_law_170 : decode code 170 = .ok (.iconst 0, 1) := by decide +kernel
theorem d_law_171 : decode code 171 = .ok (.laload, 1) := by decide +kernel
theorem d_law_172 : decode code 172 = .ok (.iload 6, 2) := by decide +kernel
theorem d_law_174 : decode code 174 = .ok (.i2l, 1) := by decide +kernel
theorem d_law_175 : decode code 175 = .ok (.lcmp, 1) := by decide +kernel
theorem d_law_176 : decode code 176 = .ok (.ifCond .eq 5, 3) := by decide +kernel
theorem d_law_179 : decode code 179 = .ok (.iconst 0, 1) := by decide +kernel
theorem d_law_181 : decode code 181 = .ok (.goto 1281, 3) := by decide +kernel
theorem d_law_184 : decode code 184 = .ok (.aload_n 1, 1) := by decide +kernel
theorem d_law_185 : decode code 185 = .ok (.aload_n 0, 1) := by decide +kernel
theorem d_law_186 : decode code 186 = .ok (.iload 4, 2) := by decide +kernel
theorem d_law_188 : decode code 188 = .ok (.iconst 1, 1) := by decide +kernel
theorem d_law_189 : decode code 189 = .ok (.iadd, 1) := by decide +kernel
theorem d_law_190 : decode code 190 = .ok (.iaload, 1) := by decide +kernel
theorem d_law_191 : decode code 191 = .ok (.aload_n 0, 1) := by decide +kernel
theorem d_law_192 : decode code 192 = .ok (.iload 4, 2) := by decide +kernel
theorem d_law_194 : decode code 194 = .ok (.iconst 2, 1) := by decide +kernel
theorem d_law_195 : decode code 195 = .ok (.iadd, 1) := by decide +kernel
theorem d_law_196 : decode code 196 = .ok (.iaload, 1) := by decide +kernel
theorem d_law_197 : decode code 197 = .ok (.ifCond .eq 7, 3) := by decide +kernel
theorem d_law_200 : decode code 200 = .ok (.iconst 1, 1) := by decide +kernel
theorem d_law_201 : decode code 201 = .ok (.goto 4, 3) := by decide +kernel
theorem d_law_204 : decode code 204 = .ok (.iconst 0, 1) := by decide +kernel
theorem d_law_205 : decode code 205 = .ok (.aload_n 0, 1) := by decide +kernel
theorem d_law_206 : decode code 206 = .ok (.iload 4, 2) := by decide +kernel
theorem d_law_208 : decode code 208 = .ok (.iconst 3, 1) := by decide +kernel
theorem d_law_209 : decode code 209 = .ok (.iadd, 1) := by decide +kernel
theorem d_law_210 : decode code 210 = .ok (.iaload, 1) := by decide +kernel
theorem d_law_211 : decode code 211 = .ok (.i2l, 1) := by decide +kernel
theorem d_law_212 : decode code 212 = .ok (.bipush 32, 2) := by decide +kernel
theorem d_law_214 : decode code 214 = .ok (.lshl, 1) := by decide +kernel
theorem d_law_215 : decode code 215 = .ok (.aload_n 0, 1) := by decide +kernel
theorem d_law_216 : decode code 216 = .ok (.iload 4, 2) := by decide +kernel
theorem d_law_218 : decode code 218 = .ok (.iconst 4, 1) := by decide +kernel
theorem d_law_219 : decode code 219 = .ok (.iadd, 1) := by decide +kernel
theorem d_law_220 : decode code 220 = .ok (.iaload, 1) := by decide +kernel
theorem d_law_221 : decode code 221 = .ok (.i2l, 1) := by decide +kernel
theorem d_law_222 : decode code 222 = .ok (.ldc2_w 76, 3) := by decide +kernel
theorem d_law_225 : decode code 225 = .ok (.land, 1) := by decide +kernel
theorem d_law_226 : decode code 226 = .ok (.lor, 1) := by decide +kernel
theorem d_law_227 : decode code 227 = .ok (.invokevirtual 78, 3) := by decide +kernel
theorem d_law_230 : decode code 230 = .ok (.aload_n 2, 1) := by decide +kernel
theorem d_law_231 : decode code 231 = .ok (.aload_n 0, 1) := by decide +kernel
theorem d_law_232 : decode code 232 = .ok (.iload 4, 2) := by decide +kernel
theorem d_law_234 : decode code 234 = .ok (.iconst 1, 1) := by decide +kernel
theorem d_law_235 : decode code 235 = .ok (.iadd, 1) := by decide +kernel
theorem d_law_236 : decode code 236 = .ok (.iaload, 1) := by decide +kernel
theorem d_law_237 : decode code 237 = .ok (.aload_n 0, 1) := by decide +kernel
theorem d_law_238 : decode code 238 = .ok (.iload 4, 2) := by decide +kernel
theorem d_law_240 : decode code 240 = .ok (.iconst 2, 1) := by decide +kernel
theorem d_law_241 : decode code 241 = .ok (.iadd, 1) := by decide +kernel
theorem d_law_242 : decode code 242 = .ok (.iaload, 1) := by decide +kernel
theorem d_law_243 : decode code 243 = .ok (.ifCond .eq 7, 3) := by decide +kernel
theorem d_law_246 : decode code 246 = .ok (.iconst 1, 1) := by decide +kernel
theorem d_law_247 : decode code 247 = .ok (.goto 4, 3) := by decide +kernel
theorem d_law_250 : decode code 250 = .ok (.iconst 0, 1) := by decide +kernel
theorem d_law_251 : decode code 251 = .ok (.aload_n 0, 1) := by decide +kernel
theorem d_law_252 : decode code 252 = .ok (.iload 4, 2) := by decide +kernel
theorem d_law_254 : decode code 254 = .ok (.iconst 3, 1) := by decide +kernel
theorem d_law_255 : decode code 255 = .ok (.iadd, 1) := by decide +kernel
theorem d_law_256 : decode code 256 = .ok (.iaload, 1) := by decide +kernel
theorem d_law_257 : decode code 257 = .ok (.i2l, 1) := by decide +kernel
theorem d_law_258 : decode code 258 = .ok (.bipush 32, 2) := by decide +kernel
theorem d_law_260 : decode code 260 = .ok (.lshl, 1) := by decide +kernel
theorem d_law_261 : decode code 261 = .ok (.aload_n 0, 1) := by decide +kernel
theorem d_law_262 : decode code 262 = .ok (.iload 4, 2) := by decide +kernel
theorem d_law_264 : decode code 264 = .ok (.iconst 4, 1) := by decide +kernel
theorem d_law_265 : decode code 265 = .ok (.iadd, 1) := by decide +kernel
theorem d_law_266 : decode code 266 = .ok (.iaload, 1) := by decide +kernel
theorem d_law_267 : decode code 267 = .ok (.i2l, 1) := by decide +kernel
theorem d_law_268 : decode code 268 = .ok (.ldc2_w 76, 3) := by decide +kernel
theorem d_law_271 : decode code 271 = .ok (.land, 1) := by decide +kernel
theorem d_law_272 : decode code 272 = .ok (.lor, 1) := by decide +kernel
theorem d_law_273 : decode code 273 = .ok (.invokevirtual 82, 3) := by decide +kernel
theorem d_law_276 : decode code 276 = .ok (.if_icmp .eq 1186, 3) := by decide +kernel
theorem d_law_279 : decode code 279 = .ok (.iconst 0, 1) := by decide +kernel
theorem d_law_281 : decode code 281 = .ok (.aload_n 1, 1) := by decide +kernel
theorem d_law_282 : decode code 282 = .ok (.aload_n 0, 1) := by decide +kernel
theorem d_law_283 : decode code 283 = .ok (.iload 4, 2) := by decide +kernel
theorem d_law_285 : decode code 285 = .ok (.iconst 1, 1) := by decide +kernel
theorem d_law_286 : decode code 286 = .ok (.iadd, 1) := by decide +kernel
theorem d_law_287 : decode code 287 = .ok (.iaload, 1) := by decide +kernel
theorem d_law_288 : decode code 288 = .ok (.aload_n 0, 1) := by decide +kernel
theorem d_law_289 : decode code 289 = .ok (.iload 4, 2) := by decide +kernel
theorem d_law_291 : decode code 291 = .ok (.iconst 2, 1) := by decide +kernel
theorem d_law_292 : decode code 292 = .ok (.iadd, 1) := by decide +kernel
theorem d_law_293 : decode code 293 = .ok (.iaload, 1) := by decide +kernel
theorem d_law_294 : decode code 294 = .ok (.i2l, 1) := by decide +kernel
theorem d_law_295 : decode code 295 = .ok (.bipush 32, 2) := by decide +kernel
theorem d_law_297 : decode code 297 = .ok (.lshl, 1) := by decide +kernel
theorem d_law_298 : decode code 298 = .ok (.aload_n 0, 1) := by decide +kernel
theorem d_law_299 : decode code 299 = .ok (.iload 4, 2) := by decide +kernel
theorem d_law_301 : decode code 301 = .ok (.iconst 3, 1) := by decide +kernel
theorem d_law_302 : decode code 302 = .ok (.iadd, 1) := by decide +kernel
theorem d_law_303 : decode code 303 = .ok (.iaload, 1) := by decide +kernel
theorem d_law_304 : decode code 304 = .ok (.i2l, 1) := by decide +kernel
theorem d_law_305 : decode code 305 = .ok (.ldc2_w 76, 3) := by decide +kernel
theorem d_law_308 : decode code 308 = .ok (.land, 1) := by decide +kernel
theorem d_law_309 : decode code 309 = .ok (.lor, 1) := by decide +kernel
theorem d_law_310 : decode code 310 = .ok (.aload_n 3, 1) := by decide +kernel
theorem d_law_311 : decode code 311 = .ok (.invokestatic 83, 3) := by decide +kernel
theorem d_law_314 : decode code 314 = .ok (.istore 5, 2) := by decide +kernel
theorem d_law_316 : decode code 316 = .ok (.aload_n 2, 1) := by decide +kernel
theorem d_law_317 : decode code 317 = .ok (.aload_n 0, 1) := by decide +kernel
theorem d_law_318 : decode code 318 = .ok (.iload 4, 2) := by decide +kernel
theorem d_law_320 : decode code 320 = .ok (.iconst 1, 1) := by decide +kernel
theorem d_law_321 : decode code 321 = .ok (.iadd, 1) := by decide +kernel
theorem d_law_322 : decode code 322 = .ok (.iaload, 1) := by decide +kernel
theorem d_law_323 : decode code 323 = .ok (.aload_n 0, 1) := by decide +kernel
theorem d_law_324 : decode code 324 = .ok (.iload 4, 2) := by decide +kernel
theorem d_law_326 : decode code 326 = .ok (.iconst 2, 1) := by decide +kernel
theorem d_law_327 : decode code 327 = .ok (.iadd, 1) := by decide +kernel
theorem d_law_328 : decode code 328 = .ok (.iaload, 1) := by decide +kernel
theorem d_law_329 : decode code 329 = .ok (.i2l, 1) := by decide +kernel
theorem d_law_330 : decode code 330 = .ok (.bipush 32, 2) := by decide +kernel
theorem d_law_332 : decode code 332 = .ok (.lshl, 1) := by decide +kernel
theorem d_law_333 : decode code 333 = .ok (.aload_n 0, 1) := by decide +kernel
theorem d_law_334 : decode code 334 = .ok (.iload 4, 2) := by decide +kernel
theorem d_law_336 : decode code 336 = .ok (.iconst 3, 1) := by decide +kernel
theorem d_law_337 : decode code 337 = .ok (.iadd, 1) := by decide +kernel
theorem d_law_338 : decode code 338 = .ok (.iaload, 1) := by decide +kernel
theorem d_law_339 : decode code 339 = .ok (.i2l, 1) := by decide +kernel
theorem d_law_340 : decode code 340 = .ok (.ldc2_w 76, 3) := by decide +kernel
theorem d_law_343 : decode code 343 = .ok (.land, 1) := by decide +kernel
theorem d_law_344 : decode code 344 = .ok (.lor, 1) := by decide +kernel
theorem d_law_345 : decode code 345 = .ok (.invokevirtual 86, 3) := by decide +kernel
theorem d_law_348 : decode code 348 = .ok (.istore 6, 2) := by decide +kernel
theorem d_law_350 : decode code 350 = .ok (.aload_n 2, 1) := by decide +kernel
theorem d_law_351 : decode code 351 = .ok (.invokevirtual 73, 3) := by decide +kernel
theorem d_law_354 : decode code 354 = .ok (.iload 5, 2) := by decide +kernel
theorem d_law_356 : decode code 356 = .ok (.if_icmp .eq 5, 3) := by decide +kernel
theorem d_law_359 : decode code 359 = .ok (.iconst 0, 1) := by decide +kernel
theorem d_law_361 : decode code 361 = .ok (.iload 5, 2) := by decide +kernel
theorem d_law_363 : decode code 363 = .ok (.ifCond .ne 22, 3) := by decide +kernel
theorem d_law_366 : decode code 366 = .ok (.aload_n 3, 1) := by decide +kernel
theorem d_law_367 : decode code 367 = .ok (.iconst 0, 1) := by decide +kernel
theorem d_law_368 : decode code 368 = .ok (.laload, 1) := by decide +kernel
theorem d_law_369 : decode code 369 = .ok (.iload 6, 2) := by decide +kernel
theorem d_law_371 : decode code 371 = .ok (.ifCond .eq 7, 3) := by decide +kernel
theorem d_law_374 : decode code 374 = .ok (.lconst 1, 1) := by decide +kernel
theorem d_law_375 : decode code 375 = .ok (.goto 4, 3) := by decide +kernel
theorem d_law_378 : decode code 378 = .ok (.lconst 0, 1) := by decide +kernel
theorem d_law_379 : decode code 379 = .ok (.lcmp, 1) := by decide +kernel
theorem d_law_380 : decode code 380 = .ok (.ifCond .eq 5, 3) := by decide +kernel
theorem d_law_383 : decode code 383 = .ok (.iconst 0, 1) := by decide +kernel
theorem d_law_385 : decode code 385 = .ok (.goto 1077, 3) := by decide +kernel
theorem d_law_388 : decode code 388 = .ok (.aload_n 1, 1) := by decide +kernel
theorem d_law_389 : decode code 389 = .ok (.aload_n 0, 1) := by decide +kernel
theorem d_law_390 : decode code 390 = .ok (.iload 4, 2) := by decide +kernel
theorem d_law_392 : decode code 392 = .ok (.iconst 1, 1) := by decide +kernel
theorem d_law_393 : decode code 393 = .ok (.iadd, 1) := by decide +kernel
theorem d_law_394 : decode code 394 = .ok (.iaload, 1) := by decide +kernel
theorem d_law_395 : decode code 395 = .ok (.aload_n 0, 1) := by decide +kernel
theorem d_law_396 : decode code 396 = .ok (.iload 4, 2) := by decide +kernel
theorem d_law_398 : decode code 398 = .ok (.iconst 2, 1) := by decide +kernel
theorem d_law_399 : decode code 399 = .ok (.iadd, 1) := by decide +kernel
theorem d_law_400 : decode code 400 = .ok (.iaload, 1) := by decide +kernel
theorem d_law_401 : decode code 401 = .ok (.i2l, 1) := by decide +kernel
theorem d_law_402 : decode code 402 = .ok (.bipush 32, 2) := by decide +kernel
theorem d_law_404 : decode code 404 = .ok (.lshl, 1) := by decide +kernel
theorem d_law_405 : decode code 405 = .ok (.aload_n 0, 1) := by decide +kernel
theorem d_law_406 : decode code 406 = .ok (.iload 4, 2) := by decide +kernel
theorem d_law_408 : decode code 408 = .ok (.iconst 3, 1) := by decide +kernel
theorem d_law_409 : decode code 409 = .ok (.iadd, 1) := by decide +kernel
theorem d_law_410 : decode code 410 = .ok (.iaload, 1) := by decide +kernel
theorem d_law_411 : decode code 411 = .ok (.i2l, 1) := by decide +kernel
theorem d_law_412 : decode code 412 = .ok (.ldc2_w 76, 3) := by decide +kernel
theorem d_law_415 : decode code 415 = .ok (.land, 1) := by decide +kernel
theorem d_law_416 : decode code 416 = .ok (.lor, 1) := by decide +kernel
theorem d_law_417 : decode code 417 = .ok (.aload_n 3, 1) := by decide +kernel
theorem d_law_418 : decode code 418 = .ok (.invokestatic 87, 3) := by decide +kernel
theorem d_law_421 : decode code 421 = .ok (.istore 5, 2) := by decide +kernel
theorem d_law_423 : decode code 423 = .ok (.aload_n 2, 1) := by decide +kernel
theorem d_law_424 : decode code 424 = .ok (.aload_n 0, 1) := by decide +kernel
theorem d_law_425 : decode code 425 = .ok (.iload 4, 2) := by decide +kernel
theorem d_law_427 : decode code 427 = .ok (.iconst 1, 1) := by decide +kernel
theorem d_law_428 : decode code 428 = .ok (.iadd, 1) := by decide +kernel
theorem d_law_429 : decode code 429 = .ok (.iaload, 1) := by decide +kernel
theorem d_law_430 : decode code 430 = .ok (.aload_n 0, 1) := by decide +kernel
theorem d_law_431 : decode code 431 = .ok (.iload 4, 2) := by decide +kernel
theorem d_law_433 : decode code 433 = .ok (.iconst 2, 1) := by decide +kernel
theorem d_law_434 : decode code 434 = .ok (.iadd, 1) := by decide +kernel
theorem d_law_435 : decode code 435 = .ok (.iaload, 1) := by decide +kernel
theorem d_law_436 : decode code 436 = .ok (.i2l, 1) := by decide +kernel
theorem d_law_437 : decode code 437 = .ok (.bipush 32, 2) := by decide +kernel
theorem d_law_439 : decode code 439 = .ok (.lshl, 1) := by decide +kernel
theorem d_law_440 : decode code 440 = .ok (.aload_n 0, 1) := by decide +kernel
theorem d_law_441 : decode code 441 = .ok (.iload 4, 2) := by decide +kernel
theorem d_law_443 : decode code 443 = .ok (.iconst 3, 1) := by decide +kernel
theorem d_law_444 : decode code 444 = .ok (.iadd, 1) := by decide +kernel
theorem d_law_445 : decode code 445 = .ok (.iaload, 1) := by decide +kernel
theorem d_law_446 : decode code 446 = .ok (.i2l, 1) := by decide +kernel
theorem d_law_447 : decode code 447 = .ok (.ldc2_w 76, 3) := by decide +kernel
theorem d_law_450 : decode code 450 = .ok (.land, 1) := by decide +kernel
theorem d_law_451 : decode code 451 = .ok (.lor, 1) := by decide +kernel
theorem d_law_452 : decode code 452 = .ok (.invokevirtual 89, 3) := by decide +kernel
theorem d_law_455 : decode code 455 = .ok (.istore 6, 2) := by decide +kernel
theorem d_law_457 : decode code 457 = .ok (.aload_n 2, 1) := by decide +kernel
theorem d_law_458 : decode code 458 = .ok (.invokevirtual 73, 3) := by decide +kernel
theorem d_law_461 : decode code 461 = .ok (.iload 5, 2) := by decide +kernel
theorem d_law_463 : decode code 463 = .ok (.if_icmp .eq 5, 3) := by decide +kernel
theorem d_law_466 : decode code 466 = .ok (.iconst 0, 1) := by decide +kernel
theorem d_law_468 : decode code 468 = .ok (.iload 5, 2) := by decide +kernel
theorem d_law_470 : decode code 470 = .ok (.ifCond .ne 22, 3) := by decide +kernel
theorem d_law_473 : decode code 473 = .ok (.aload_n 3, 1) := by decide +kernel
theorem d_law_474 : decode code 474 = .ok (.iconst 0, 1) := by decide +kernel
theorem d_law_475 : decode code 475 = .ok (.laload, 1) := by decide +kernel
theorem d_law_476 : decode code 476 = .ok (.iload 6, 2) := by decide +kernel
theorem d_law_478 : decode code 478 = .ok (.ifCond .eq 7, 3) := by decide +kernel
theorem d_law_481 : decode code 481 = .ok (.lconst 1, 1) := by decide +kernel
theorem d_law_482 : decode code 482 = .ok (.goto 4, 3) := by decide +kernel
theorem d_law_485 : decode code 485 = .ok (.lconst 0, 1) := by decide +kernel
theorem d_law_486 : decode code 486 = .ok (.lcmp, 1) := by decide +kernel
theorem d_law_487 : decode code 487 = .ok (.ifCond .eq 5, 3) := by decide +kernel
theorem d_law_490 : decode code 490 = .ok (.iconst 0, 1) := by decide +kernel
theorem d_law_492 : decode code 492 = .ok (.goto 970, 3) := by decide +kernel
theorem d_law_495 : decode code 495 = .ok (.aload_n 1, 1) := by decide +kernel
theorem d_law_496 : decode code 496 = .ok (.aload_n 0, 1) := by decide +kernel
theorem d_law_497 : decode code 497 = .ok (.iload 4, 2) := by decide +kernel
theorem d_law_499 : decode code 499 = .ok (.iconst 1, 1) := by decide +kernel
theorem d_law_500 : decode code 500 = .ok (.iadd, 1) := by decide +kernel
theorem d_law_501 : decode code 501 = .ok (.iaload, 1) := by decide +kernel
theorem d_law_502 : decode code 502 = .ok (.invokevirtual 90, 3) := by decide +kernel
theorem d_law_505 : decode code 505 = .ok (.aload_n 2, 1) := by decide +kernel
theorem d_law_506 : decode code 506 = .ok (.aload_n 0, 1) := by decide +kernel
theorem d_law_507 : decode code 507 = .ok (.iload 4, 2) := by decide +kernel
theorem d_law_509 : decode code 509 = .ok (.iconst 1, 1) := by decide +kernel
theorem d_law_510 : decode code 510 = .ok (.iadd, 1) := by decide +kernel
theorem d_law_511 : decode code 511 = .ok (.iaload, 1) := by decide +kernel
theorem d_law_512 : decode code 512 = .ok (.invokevirtual 93, 3) := by decide +kernel
theorem d_law_515 : decode code 515 = .ok (.if_icmp .eq 947, 3) := by decide +kernel
theorem d_law_518 : decode code 518 = .ok (.iconst 0, 1) := by decide +kernel
theorem d_law_520 : decode code 520 = .ok (.aload_n 1, 1) := by decide +kernel
theorem d_law_521 : decode code 521 = .ok (.aload_n 0, 1) := by decide +kernel
theorem d_law_522 : decode code 522 = .ok (.iload 4, 2) := by decide +kernel
theorem d_law_524 : decode code 524 = .ok (.iconst 1, 1) := by decide +kernel
theorem d_law_525 : decode code 525 = .ok (.iadd, 1) := by decide +kernel
theorem d_law_526 : decode code 526 = .ok (.iaload, 1) := by decide +kernel
theorem d_law_527 : decode code 527 = .ok (.aload_n 0, 1) := by decide +kernel
theorem d_law_528 : decode code 528 = .ok (.iload 4, 2) := by decide +kernel
theorem d_law_530 : decode code 530 = .ok (.iconst 2, 1) := by decide +kernel
theorem d_law_531 : decode code 531 = .ok (.iadd, 1) := by decide +kernel
theorem d_law_532 : decode code 532 = .ok (.iaload, 1) := by decide +kernel
theorem d_law_533 : decode code 533 = .ok (.i2l, 1) := by decide +kernel
theorem d_law_534 : decode code 534 = .ok (.bipush 32, 2) := by decide +kernel
theorem d_law_536 : decode code 536 = .ok (.lshl, 1) := by decide +kernel
theorem d_law_537 : decode code 537 = .ok (.aload_n 0, 1) := by decide +kernel
theorem d_law_538 : decode code 538 = .ok (.iload 4, 2) := by decide +kernel
theorem d_law_540 : decode code 540 = .ok (.iconst 3, 1) := by decide +kernel
theorem d_law_541 : decode code 541 = .ok (.iadd, 1) := by decide +kernel
theorem d_law_542 : decode code 542 = .ok (.iaload, 1) := by decide +kernel
theorem d_law_543 : decode code 543 = .ok (.i2l, 1) := by decide +kernel
theorem d_law_544 : decode code 544 = .ok (.ldc2_w 76, 3) := by decide +kernel
theorem d_law_547 : decode code 547 = .ok (.land, 1) := by decide +kernel
theorem d_law_548 : decode code 548 = .ok (.lor, 1) := by decide +kernel
theorem d_law_549 : decode code 549 = .ok (.aload_n 0, 1) := by decide +kernel
theorem d_law_550 : decode code 550 = .ok (.iload 4, 2) := by decide +kernel
theorem d_law_552 : decode code 552 = .ok (.iconst 4, 1) := by decide +kernel
theorem d_law_553 : decode code 553 = .ok (.iadd, 1) := by decide +kernel
theorem d_law_554 : decode code 554 = .ok (.iaload, 1) := by decide +kernel
theorem d_law_555 : decode code 555 = .ok (.ifCond .eq 7, 3) := by decide +kernel
theorem d_law_558 : decode code 558 = .ok (.iconst 1, 1) := by decide +kernel
theorem d_law_559 : decode code 559 = .ok (.goto 4, 3) := by decide +kernel
theorem d_law_562 : decode code 562 = .ok (.iconst 0, 1) := by decide +kernel
theorem d_law_563 : decode code 563 = .ok (.aload_n 3, 1) := by decide +kernel
theorem d_law_564 : decode code 564 = .ok (.invokestatic 94, 3) := by decide +kernel
theorem d_law_567 : decode code 567 = .ok (.istore 5, 2) := by decide +kernel
theorem d_law_569 : decode code 569 = .ok (.aload_n 2, 1) := by decide +kernel
theorem d_law_570 : decode code 570 = .ok (.aload_n 0, 1) := by decide +kernel
theorem d_law_571 : decode code 571 = .ok (.iload 4, 2) := by decide +kernel
theorem d_law_573 : decode code 573 = .ok (.iconst 1, 1) := by decide +kernel
theorem d_law_574 : decode code 574 = .ok (.iadd, 1) := by decide +kernel
theorem d_law_575 : decode code 575 = .ok (.iaload, 1) := by decide +kernel
theorem d_law_576 : decode code 576 = .ok (.aload_n 0, 1) := by decide +kernel
theorem d_law_577 : decode code 577 = .ok (.iload 4, 2) := by decide +kernel
theorem d_law_579 : decode code 579 = .ok (.iconst 2, 1) := by decide +kernel
theorem d_law_580 : decode code 580 = .ok (.iadd, 1) := by decide +kernel
theorem d_law_581 : decode code 581 = .ok (.iaload, 1) := by decide +kernel
theorem d_law_582 : decode code 582 = .ok (.i2l, 1) := by decide +kernel
theorem d_law_583 : decode code 583 = .ok (.bipush 32, 2) := by decide +kernel
theorem d_law_585 : decode code 585 = .ok (.lshl, 1) := by decide +kernel
theorem d_law_586 : decode code 586 = .ok (.aload_n 0, 1) := by decide +kernel
theorem d_law_587 : decode code 587 = .ok (.iload 4, 2) := by decide +kernel
theorem d_law_589 : decode code 589 = .ok (.iconst 3, 1) := by decide +kernel
theorem d_law_590 : decode code 590 = .ok (.iadd, 1) := by decide +kernel
theorem d_law_591 : decode code 591 = .ok (.iaload, 1) := by decide +kernel
theorem d_law_592 : decode code 592 = .ok (.i2l, 1) := by decide +kernel
theorem d_law_593 : decode code 593 = .ok (.ldc2_w 76, 3) := by decide +kernel
theorem d_law_596 : decode code 596 = .ok (.land, 1) := by decide +kernel
theorem d_law_597 : decode code 597 = .ok (.lor, 1) := by decide +kernel
theorem d_law_598 : decode code 598 = .ok (.aload_n 0, 1) := by decide +kernel
theorem d_law_599 : decode code 599 = .ok (.iload 4, 2) := by decide +kernel
theorem d_law_601 : decode code 601 = .ok (.iconst 4, 1) := by decide +kernel
theorem d_law_602 : decode code 602 = .ok (.iadd, 1) := by decide +kernel
theorem d_law_603 : decode code 603 = .ok (.iaload, 1) := by decide +kernel
theorem d_law_604 : decode code 604 = .ok (.ifCond .eq 7, 3) := by decide +kernel
theorem d_law_607 : decode code 607 = .ok (.iconst 1, 1) := by decide +kernel
theorem d_law_608 : decode code 608 = .ok (.goto 4, 3) := by decide +kernel
theorem d_law_611 : decode code 611 = .ok (.iconst 0, 1) := by decide +kernel
theorem d_law_612 : decode code 612 = .ok (.invokevirtual 97, 3) := by decide +kernel
theorem d_law_615 : decode code 615 = .ok (.lstore 6, 2) := by decide +kernel
theorem d_law_617 : decode code 617 = .ok (.aload_n 2, 1) := by decide +kernel
theorem d_law_618 : decode code 618 = .ok (.invokevirtual 73, 3) := by decide +kernel
theorem d_law_621 : decode code 621 = .ok (.iload 5, 2) := by decide +kernel
theorem d_law_623 : decode code 623 = .ok (.if_icmp .eq 5, 3) := by decide +kernel
theorem d_law_626 : decode code 626 = .ok (.iconst 0, 1) := by decide +kernel
theorem d_law_628 : decode code 628 = .ok (.iload 5, 2) := by decide +kernel
theorem d_law_630 : decode code 630 = .ok (.ifCond .ne 14, 3) := by decide +kernel
theorem d_law_633 : decode code 633 = .ok (.aload_n 3, 1) := by decide +kernel
theorem d_law_634 : decode code 634 = .ok (.iconst 0, 1) := by decide +kernel
theorem d_law_635 : decode code 635 = .ok (.laload, 1) := by decide +kernel
theorem d_law_636 : decode code 636 = .ok (.lload 6, 2) := by decide +kernel
theorem d_law_638 : decode code 638 = .ok (.lcmp, 1) := by decide +kernel
theorem d_law_639 : decode code 639 = .ok (.ifCond .eq 5, 3) := by decide +kernel
theorem d_law_642 : decode code 642 = .ok (.iconst 0, 1) := by decide +kernel
theorem d_law_644 : decode code 644 = .ok (.goto 818, 3) := by decide +kernel
theorem d_law_647 : decode code 647 = .ok (.aload_n 1, 1) := by decide +kernel
theorem d_law_648 : decode code 648 = .ok (.aload_n 0, 1) := by decide +kernel
theorem d_law_649 : decode code 649 = .ok (.iload 4, 2) := by decide +kernel
theorem d_law_651 : decode code 651 = .ok (.iconst 1, 1) := by decide +kernel
theorem d_law_652 : decode code 652 = .ok (.iadd, 1) := by decide +kernel
theorem d_law_653 : decode code 653 = .ok (.iaload, 1) := by decide +kernel
theorem d_law_654 : decode code 654 = .ok (.aload_n 0, 1) := by decide +kernel
theorem d_law_655 : decode code 655 = .ok (.iload 4, 2) := by decide +kernel
theorem d_law_657 : decode code 657 = .ok (.iconst 2, 1) := by decide +kernel
theorem d_law_658 : decode code 658 = .ok (.iadd, 1) := by decide +kernel
theorem d_law_659 : decode code 659 = .ok (.iaload, 1) := by decide +kernel
theorem d_law_660 : decode code 660 = .ok (.i2l, 1) := by decide +kernel
theorem d_law_661 : decode code 661 = .ok (.bipush 32, 2) := by decide +kernel
theorem d_law_663 : decode code 663 = .ok (.lshl, 1) := by decide +kernel
theorem d_law_664 : decode code 664 = .ok (.aload_n 0, 1) := by decide +kernel
theorem d_law_665 : decode code 665 = .ok (.iload 4, 2) := by decide +kernel
theorem d_law_667 : decode code 667 = .ok (.iconst 3, 1) := by decide +kernel
theorem d_law_668 : decode code 668 = .ok (.iadd, 1) := by decide +kernel
theorem d_law_669 : decode code 669 = .ok (.iaload, 1) := by decide +kernel
theorem d_law_670 : decode code 670 = .ok (.i2l, 1) := by decide +kernel
theorem d_law_671 : decode code 671 = .ok (.ldc2_w 76, 3) := by decide +kernel
theorem d_law_674 : decode code 674 = .ok (.land, 1) := by decide +kernel
theorem d_law_675 : decode code 675 = .ok (.lor, 1) := by decide +kernel
theorem d_law_676 : decode code 676 = .ok (.aload_n 0, 1) := by decide +kernel
theorem d_law_677 : decode code 677 = .ok (.iload 4, 2) := by decide +kernel
theorem d_law_679 : decode code 679 = .ok (.iconst 4, 1) := by decide +kernel
theorem d_law_680 : decode code 680 = .ok (.iadd, 1) := by decide +kernel
theorem d_law_681 : decode code 681 = .ok (.iaload, 1) := by decide +kernel
theorem d_law_682 : decode code 682 = .ok (.aload_n 3, 1) := by decide +kernel
theorem d_law_683 : decode code 683 = .ok (.invokestatic 98, 3) := by decide +kernel
theorem d_law_686 : decode code 686 = .ok (.istore 5, 2) := by decide +kernel
theorem d_law_688 : decode code 688 = .ok (.aload_n 2, 1) := by decide +kernel
theorem d_law_689 : decode code 689 = .ok (.aload_n 0, 1) := by decide +kernel
theorem d_law_690 : decode code 690 = .ok (.iload 4, 2) := by decide +kernel
theorem d_law_692 : decode code 692 = .ok (.iconst 1, 1) := by decide +kernel
theorem d_law_693 : decode code 693 = .ok (.iadd, 1) := by decide +kernel
theorem d_law_694 : decode code 694 = .ok (.iaload, 1) := by decide +kernel
theorem d_law_695 : decode code 695 = .ok (.aload_n 0, 1) := by decide +kernel
theorem d_law_696 : decode code 696 = .ok (.iload 4, 2) := by decide +kernel
theorem d_law_698 : decode code 698 = .ok (.iconst 2, 1) := by decide +kernel
theorem d_law_699 : decode code 699 = .ok (.iadd, 1) := by decide +kernel
theorem d_law_700 : decode code 700 = .ok (.iaload, 1) := by decide +kernel
theorem d_law_701 : decode code 701 = .ok (.i2l, 1) := by decide +kernel
theorem d_law_702 : decode code 702 = .ok (.bipush 32, 2) := by decide +kernel
theorem d_law_704 : decode code 704 = .ok (.lshl, 1) := by decide +kernel
theorem d_law_705 : decode code 705 = .ok (.aload_n 0, 1) := by decide +kernel
theorem d_law_706 : decode code 706 = .ok (.iload 4, 2) := by decide +kernel
theorem d_law_708 : decode code 708 = .ok (.iconst 3, 1) := by decide +kernel
theorem d_law_709 : decode code 709 = .ok (.iadd, 1) := by decide +kernel
theorem d_law_710 : decode code 710 = .ok (.iaload, 1) := by decide +kernel
theorem d_law_711 : decode code 711 = .ok (.i2l, 1) := by decide +kernel
theorem d_law_712 : decode code 712 = .ok (.ldc2_w 76, 3) := by decide +kernel
theorem d_law_715 : decode code 715 = .ok (.land, 1) := by decide +kernel
theorem d_law_716 : decode code 716 = .ok (.lor, 1) := by decide +kernel
theorem d_law_717 : decode code 717 = .ok (.aload_n 0, 1) := by decide +kernel
theorem d_law_718 : decode code 718 = .ok (.iload 4, 2) := by decide +kernel
theorem d_law_720 : decode code 720 = .ok (.iconst 4, 1) := by decide +kernel
theorem d_law_721 : decode code 721 = .ok (.iadd, 1) := by decide +kernel
theorem d_law_722 : decode code 722 = .ok (.iaload, 1) := by decide +kernel
theorem d_law_723 : decode code 723 = .ok (.invokevirtual 101, 3) := by decide +kernel
theorem d_law_726 : decode code 726 = .ok (.lstore 6, 2) := by decide +kernel
theorem d_law_728 : decode code 728 = .ok (.aload_n 2, 1) := by decide +kernel
theorem d_law_729 : decode code 729 = .ok (.invokevirtual 73, 3) := by decide +kernel
theorem d_law_732 : decode code 732 = .ok (.iload 5, 2) := by decide +kernel
theorem d_law_734 : decode code 734 = .ok (.if_icmp .eq 5, 3) := by decide +kernel
theorem d_law_737 : decode code 737 = .ok (.iconst 0, 1) := by decide +kernel
theorem d_law_739 : decode code 739 = .ok (.iload 5, 2) := by decide +kernel
theorem d_law_741 : decode code 741 = .ok (.ifCond .ne 14, 3) := by decide +kernel
theorem d_law_744 : decode code 744 = .ok (.aload_n 3, 1) := by decide +kernel
theorem d_law_745 : decode code 745 = .ok (.iconst 0, 1) := by decide +kernel
theorem d_law_746 : decode code 746 = .ok (.laload, 1) := by decide +kernel
theorem d_law_747 : decode code 747 = .ok (.lload 6, 2) := by decide +kernel
theorem d_law_749 : decode code 749 = .ok (.lcmp, 1) := by decide +kernel
theorem d_law_750 : decode code 750 = .ok (.ifCond .eq 5, 3) := by decide +kernel
theorem d_law_753 : decode code 753 = .ok (.iconst 0, 1) := by decide +kernel
theorem d_law_755 : decode code 755 = .ok (.goto 707, 3) := by decide +kernel
theorem d_law_758 : decode code 758 = .ok (.aload_n 1, 1) := by decide +kernel
theorem d_law_759 : decode code 759 = .ok (.aload_n 0, 1) := by decide +kernel
theorem d_law_760 : decode code 760 = .ok (.iload 4, 2) := by decide +kernel
theorem d_law_762 : decode code 762 = .ok (.iconst 1, 1) := by decide +kernel
theorem d_law_763 : decode code 763 = .ok (.iadd, 1) := by decide +kernel
theorem d_law_764 : decode code 764 = .ok (.iaload, 1) := by decide +kernel
theorem d_law_765 : decode code 765 = .ok (.aload_n 0, 1) := by decide +kernel
theorem d_law_766 : decode code 766 = .ok (.iload 4, 2) := by decide +kernel
theorem d_law_768 : decode code 768 = .ok (.iconst 2, 1) := by decide +kernel
theorem d_law_769 : decode code 769 = .ok (.iadd, 1) := by decide +kernel
theorem d_law_770 : decode code 770 = .ok (.iaload, 1) := by decide +kernel
theorem d_law_771 : decode code 771 = .ok (.i2l, 1) := by decide +kernel
theorem d_law_772 : decode code 772 = .ok (.bipush 32, 2) := by decide +kernel
theorem d_law_774 : decode code 774 = .ok (.lshl, 1) := by decide +kernel
theorem d_law_775 : decode code 775 = .ok (.aload_n 0, 1) := by decide +kernel
theorem d_law_776 : decode code 776 = .ok (.iload 4, 2) := by decide +kernel
theorem d_law_778 : decode code 778 = .ok (.iconst 3, 1) := by decide +kernel
theorem d_law_779 : decode code 779 = .ok (.iadd, 1) := by decide +kernel
theorem d_law_780 : decode code 780 = .ok (.iaload, 1) := by decide +kernel
theorem d_law_781 : decode code 781 = .ok (.i2l, 1) := by decide +kernel
theorem d_law_782 : decode code 782 = .ok (.ldc2_w 76, 3) := by decide +kernel
theorem d_law_785 : decode code 785 = .ok (.land, 1) := by decide +kernel
theorem d_law_786 : decode code 786 = .ok (.lor, 1) := by decide +kernel
theorem d_law_787 : decode code 787 = .ok (.aload_n 0, 1) := by decide +kernel
theorem d_law_788 : decode code 788 = .ok (.iload 4, 2) := by decide +kernel
theorem d_law_790 : decode code 790 = .ok (.iconst 4, 1) := by decide +kernel
theorem d_law_791 : decode code 791 = .ok (.iadd, 1) := by decide +kernel
theorem d_law_792 : decode code 792 = .ok (.iaload, 1) := by decide +kernel
theorem d_law_793 : decode code 793 = .ok (.aload_n 3, 1) := by decide +kernel
theorem d_law_794 : decode code 794 = .ok (.invokestatic 102, 3) := by decide +kernel
theorem d_law_797 : decode code 797 = .ok (.istore 5, 2) := by decide +kernel
theorem d_law_799 : decode code 799 = .ok (.aload_n 2, 1) := by decide +kernel
theorem d_law_800 : decode code 800 = .ok (.aload_n 0, 1) := by decide +kernel
theorem d_law_801 : decode code 801 = .ok (.iload 4, 2) := by decide +kernel
theorem d_law_803 : decode code 803 = .ok (.iconst 1, 1) := by decide +kernel
theorem d_law_804 : decode code 804 = .ok (.iadd, 1) := by decide +kernel
theorem d_law_805 : decode code 805 = .ok (.iaload, 1) := by decide +kernel
theorem d_law_806 : decode code 806 = .ok (.aload_n 0, 1) := by decide +kernel
theorem d_law_807 : decode code 807 = .ok (.iload 4, 2) := by decide +kernel
theorem d_law_809 : decode code 809 = .ok (.iconst 2, 1) := by decide +kernel
theorem d_law_810 : decode code 810 = .ok (.iadd, 1) := by decide +kernel
theorem d_law_811 : decode code 811 = .ok (.iaload, 1) := by decide +kernel
theorem d_law_812 : decode code 812 = .ok (.i2l, 1) := by decide +kernel
theorem d_law_813 : decode code 813 = .ok (.bipush 32, 2) := by decide +kernel
theorem d_law_815 : decode code 815 = .ok (.lshl, 1) := by decide +kernel
theorem d_law_816 : decode code 816 = .ok (.aload_n 0, 1) := by decide +kernel
theorem d_law_817 : decode code 817 = .ok (.iload 4, 2) := by decide +kernel
theorem d_law_819 : decode code 819 = .ok (.iconst 3, 1) := by decide +kernel
theorem d_law_820 : decode code 820 = .ok (.iadd, 1) := by decide +kernel
theorem d_law_821 : decode code 821 = .ok (.iaload, 1) := by decide +kernel
theorem d_law_822 : decode code 822 = .ok (.i2l, 1) := by decide +kernel
theorem d_law_823 : decode code 823 = .ok (.ldc2_w 76, 3) := by decide +kernel
theorem d_law_826 : decode code 826 = .ok (.land, 1) := by decide +kernel
theorem d_law_827 : decode code 827 = .ok (.lor, 1) := by decide +kernel
theorem d_law_828 : decode code 828 = .ok (.aload_n 0, 1) := by decide +kernel
theorem d_law_829 : decode code 829 = .ok (.iload 4, 2) := by decide +kernel
theorem d_law_831 : decode code 831 = .ok (.iconst 4, 1) := by decide +kernel
theorem d_law_832 : decode code 832 = .ok (.iadd, 1) := by decide +kernel
theorem d_law_833 : decode code 833 = .ok (.iaload, 1) := by decide +kernel
theorem d_law_834 : decode code 834 = .ok (.invokevirtual 104, 3) := by decide +kernel
theorem d_law_837 : decode code 837 = .ok (.istore 6, 2) := by decide +kernel
theorem d_law_839 : decode code 839 = .ok (.aload_n 2, 1) := by decide +kernel
theorem d_law_840 : decode code 840 = .ok (.invokevirtual 73, 3) := by decide +kernel
theorem d_law_843 : decode code 843 = .ok (.iload 5, 2) := by decide +kernel
theorem d_law_845 : decode code 845 = .ok (.if_icmp .eq 5, 3) := by decide +kernel
theorem d_law_848 : decode code 848 = .ok (.iconst 0, 1) := by decide +kernel
theorem d_law_850 : decode code 850 = .ok (.iload 5, 2) := by decide +kernel
theorem d_law_852 : decode code 852 = .ok (.ifCond .ne 22, 3) := by decide +kernel
theorem d_law_855 : decode code 855 = .ok (.aload_n 3, 1) := by decide +kernel
theorem d_law_856 : decode code 856 = .ok (.iconst 0, 1) := by decide +kernel
theorem d_law_857 : decode code 857 = .ok (.laload, 1) := by decide +kernel
theorem d_law_858 : decode code 858 = .ok (.iload 6, 2) := by decide +kernel
theorem d_law_860 : decode code 860 = .ok (.ifCond .eq 7, 3) := by decide +kernel
theorem d_law_863 : decode code 863 = .ok (.lconst 1, 1) := by decide +kernel
theorem d_law_864 : decode code 864 = .ok (.goto 4, 3) := by decide +kernel
theorem d_law_867 : decode code 867 = .ok (.lconst 0, 1) := by decide +kernel
theorem d_law_868 : decode code 868 = .ok (.lcmp, 1) := by decide +kernel
theorem d_law_869 : decode code 869 = .ok (.ifCond .eq 5, 3) := by decide +kernel
theorem d_law_872 : decode code 872 = .ok (.iconst 0, 1) := by decide +kernel
theorem d_law_874 : decode code 874 = .ok (.goto 588, 3) := by decide +kernel
theorem d_law_877 : decode code 877 = .ok (.aload_n 1, 1) := by decide +kernel
theorem d_law_878 : decode code 878 = .ok (.aload_n 0, 1) := by decide +kernel
theorem d_law_879 : decode code 879 = .ok (.iload 4, 2) := by decide +kernel
theorem d_law_881 : decode code 881 = .ok (.iconst 1, 1) := by decide +kernel
theorem d_law_882 : decode code 882 = .ok (.iadd, 1) := by decide +kernel
theorem d_law_883 : decode code 883 = .ok (.iaload, 1) := by decide +kernel
theorem d_law_884 : decode code 884 = .ok (.aload_n 0, 1) := by decide +kernel
theorem d_law_885 : decode code 885 = .ok (.iload 4, 2) := by decide +kernel
theorem d_law_887 : decode code 887 = .ok (.iconst 2, 1) := by decide +kernel
theorem d_law_888 : decode code 888 = .ok (.iadd, 1) := by decide +kernel
theorem d_law_889 : decode code 889 = .ok (.iaload, 1) := by decide +kernel
theorem d_law_890 : decode code 890 = .ok (.aload_n 0, 1) := by decide +kernel
theorem d_law_891 : decode code 891 = .ok (.iload 4, 2) := by decide +kernel
theorem d_law_893 : decode code 893 = .ok (.iconst 3, 1) := by decide +kernel
theorem d_law_894 : decode code 894 = .ok (.iadd, 1) := by decide +kernel
theorem d_law_895 : decode code 895 = .ok (.iaload, 1) := by decide +kernel
theorem d_law_896 : decode code 896 = .ok (.aload_n 0, 1) := by decide +kernel
theorem d_law_897 : decode code 897 = .ok (.iload 4, 2) := by decide +kernel
theorem d_law_899 : decode code 899 = .ok (.iconst 4, 1) := by decide +kernel
theorem d_law_900 : decode code 900 = .ok (.iadd, 1) := by decide +kernel
theorem d_law_901 : decode code 901 = .ok (.iaload, 1) := by decide +kernel
theorem d_law_902 : decode code 902 = .ok (.aload_n 3, 1) := by decide +kernel
theorem d_law_903 : decode code 903 = .ok (.invokestatic 105, 3) := by decide +kernel
theorem d_law_906 : decode code 906 = .ok (.istore 5, 2) := by decide +kernel
theorem d_law_908 : decode code 908 = .ok (.aload_n 2, 1) := by decide +kernel
theorem d_law_909 : decode code 909 = .ok (.aload_n 0, 1) := by decide +kernel
theorem d_law_910 : decode code 910 = .ok (.iload 4, 2) := by decide +kernel
theorem d_law_912 : decode code 912 = .ok (.iconst 1, 1) := by decide +kernel
theorem d_law_913 : decode code 913 = .ok (.iadd, 1) := by decide +kernel
theorem d_law_914 : decode code 914 = .ok (.iaload, 1) := by decide +kernel
theorem d_law_915 : decode code 915 = .ok (.aload_n 0, 1) := by decide +kernel
theorem d_law_916 : decode code 916 = .ok (.iload 4, 2) := by decide +kernel
theorem d_law_918 : decode code 918 = .ok (.iconst 2, 1) := by decide +kernel
theorem d_law_919 : decode code 919 = .ok (.iadd, 1) := by decide +kernel
theorem d_law_920 : decode code 920 = .ok (.iaload, 1) := by decide +kernel
theorem d_law_921 : decode code 921 = .ok (.aload_n 0, 1) := by decide +kernel
theorem d_law_922 : decode code 922 = .ok (.iload 4, 2) := by decide +kernel
theorem d_law_924 : decode code 924 = .ok (.iconst 3, 1) := by decide +kernel
theorem d_law_925 : decode code 925 = .ok (.iadd, 1) := by decide +kernel
theorem d_law_926 : decode code 926 = .ok (.iaload, 1) := by decide +kernel
theorem d_law_927 : decode code 927 = .ok (.aload_n 0, 1) := by decide +kernel
theorem d_law_928 : decode code 928 = .ok (.iload 4, 2) := by decide +kernel
theorem d_law_930 : decode code 930 = .ok (.iconst 4, 1) := by decide +kernel
theorem d_law_931 : decode code 931 = .ok (.iadd, 1) := by decide +kernel
theorem d_law_932 : decode code 932 = .ok (.iaload, 1) := by decide +kernel
theorem d_law_933 : decode code 933 = .ok (.invokevirtual 108, 3) := by decide +kernel
theorem d_law_936 : decode code 936 = .ok (.istore 6, 2) := by decide +kernel
theorem d_law_938 : decode code 938 = .ok (.aload_n 2, 1) := by decide +kernel
theorem d_law_939 : decode code 939 = .ok (.invokevirtual 73, 3) := by decide +kernel
theorem d_law_942 : decode code 942 = .ok (.iload 5, 2) := by decide +kernel
theorem d_law_944 : decode code 944 = .ok (.if_icmp .eq 5, 3) := by decide +kernel
theorem d_law_947 : decode code 947 = .ok (.iconst 0, 1) := by decide +kernel
theorem d_law_949 : decode code 949 = .ok (.iload 5, 2) := by decide +kernel
theorem d_law_951 : decode code 951 = .ok (.ifCond .ne 15, 3) := by decide +kernel
theorem d_law_954 : decode code 954 = .ok (.aload_n 3, 1) := by decide +kernel
theorem d_law_955 : decode code 955 = .ok (.iconst 0, 1) := by decide +kernel
theorem d_law_956 : decode code 956 = .ok (.laload, 1) := by decide +kernel
theorem d_law_957 : decode code 957 = .ok (.iload 6, 2) := by decide +kernel
theorem d_law_959 : decode code 959 = .ok (.i2l, 1) := by decide +kernel
theorem d_law_960 : decode code 960 = .ok (.lcmp, 1) := by decide +kernel
theorem d_law_961 : decode code 961 = .ok (.ifCond .eq 5, 3) := by decide +kernel
theorem d_law_964 : decode code 964 = .ok (.iconst 0, 1) := by decide +kernel
theorem d_law_966 : decode code 966 = .ok (.goto 496, 3) := by decide +kernel
theorem d_law_969 : decode code 969 = .ok (.aload_n 1, 1) := by decide +kernel
theorem d_law_970 : decode code 970 = .ok (.invokevirtual 109, 3) := by decide +kernel
theorem d_law_973 : decode code 973 = .ok (.aload_n 2, 1) := by decide +kernel
theorem d_law_974 : decode code 974 = .ok (.invokevirtual 112, 3) := by decide +kernel
theorem d_law_977 : decode code 977 = .ok (.goto 485, 3) := by decide +kernel
theorem d_law_980 : decode code 980 = .ok (.aload_n 1, 1) := by decide +kernel
theorem d_law_981 : decode code 981 = .ok (.aload_n 0, 1) := by decide +kernel
theorem d_law_982 : decode code 982 = .ok (.iload 4, 2) := by decide +kernel
theorem d_law_984 : decode code 984 = .ok (.iconst 1, 1) := by decide +kernel
theorem d_law_985 : decode code 985 = .ok (.iadd, 1) := by decide +kernel
theorem d_law_986 : decode code 986 = .ok (.iaload, 1) := by decide +kernel
theorem d_law_987 : decode code 987 = .ok (.aload_n 0, 1) := by decide +kernel
theorem d_law_988 : decode code 988 = .ok (.iload 4, 2) := by decide +kernel
theorem d_law_990 : decode code 990 = .ok (.iconst 2, 1) := by decide +kernel
theorem d_law_991 : decode code 991 = .ok (.iadd, 1) := by decide +kernel
theorem d_law_992 : decode code 992 = .ok (.iaload, 1) := by decide +kernel
theorem d_law_993 : decode code 993 = .ok (.aload_n 3, 1) := by decide +kernel
theorem d_law_994 : decode code 994 = .ok (.invokestatic 113, 3) := by decide +kernel
theorem d_law_997 : decode code 997 = .ok (.istore 5, 2) := by decide +kernel
theorem d_law_999 : decode code 999 = .ok (.aload_n 2, 1) := by decide +kernel
theorem d_law_1000 : decode code 1000 = .ok (.aload_n 0, 1) := by decide +kernel
theorem d_law_1001 : decode code 1001 = .ok (.iload 4, 2) := by decide +kernel
theorem d_law_1003 : decode code 1003 = .ok (.iconst 1, 1) := by decide +kernel
theorem d_law_1004 : decode code 1004 = .ok (.iadd, 1) := by decide +kernel
theorem d_law_1005 : decode code 1005 = .ok (.iaload, 1) := by decide +kernel
theorem d_law_1006 : decode code 1006 = .ok (.aload_n 0, 1) := by decide +kernel
theorem d_law_1007 : decode code 1007 = .ok (.iload 4, 2) := by decide +kernel
theorem d_law_1009 : decode code 1009 = .ok (.iconst 2, 1) := by decide +kernel
theorem d_law_1010 : decode code 1010 = .ok (.iadd, 1) := by decide +kernel
theorem d_law_1011 : decode code 1011 = .ok (.iaload, 1) := by decide +kernel
theorem d_law_1012 : decode code 1012 = .ok (.invokevirtual 116, 3) := by decide +kernel
theorem d_law_1015 : decode code 1015 = .ok (.istore 6, 2) := by decide +kernel
theorem d_law_1017 : decode code 1017 = .ok (.aload_n 2, 1) := by decide +kernel
theorem d_law_1018 : decode code 1018 = .ok (.invokevirtual 73, 3) := by decide +kernel
theorem d_law_1021 : decode code 1021 = .ok (.iload 5, 2) := by decide +kernel
theorem d_law_1023 : decode code 1023 = .ok (.if_icmp .eq 5, 3) := by decide +kernel
theorem d_law_1026 : decode code 1026 = .ok (.iconst 0, 1) := by decide +kernel
theorem d_law_1028 : decode code 1028 = .ok (.iload 5, 2) := by decide +kernel
theorem d_law_1030 : decode code 1030 = .ok (.ifCond .ne 15, 3) := by decide +kernel
theorem d_law_1033 : decode code 1033 = .ok (.aload_n 3, 1) := by decide +kernel
theorem d_law_1034 : decode code 1034 = .ok (.iconst 0, 1) := by decide +kernel
theorem d_law_1035 : decode code 1035 = .ok (.laload, 1) := by decide +kernel
theorem d_law_1036 : decode code 1036 = .ok (.iload 6, 2) := by decide +kernel
theorem d_law_1038 : decode code 1038 = .ok (.i2l, 1) := by decide +kernel
theorem d_law_1039 : decode code 1039 = .ok (.lcmp, 1) := by decide +kernel
theorem d_law_1040 : decode code 1040 = .ok (.ifCond .eq 5, 3) := by decide +kernel
theorem d_law_1043 : decode code 1043 = .ok (.iconst 0, 1) := by decide +kernel
theorem d_law_1045 : decode code 1045 = .ok (.goto 417, 3) := by decide +kernel
theorem d_law_1048 : decode code 1048 = .ok (.aload_n 1, 1) := by decide +kernel
theorem d_law_1049 : decode code 1049 = .ok (.aload_n 0, 1) := by decide +kernel
theorem d_law_1050 : decode code 1050 = .ok (.iload 4, 2) := by decide +kernel
theorem d_law_1052 : decode code 1052 = .ok (.iconst 1, 1) := by decide +kernel
theorem d_law_1053 : decode code 1053 = .ok (.iadd, 1) := by decide +kernel
theorem d_law_1054 : decode code 1054 = .ok (.iaload, 1) := by decide +kernel
theorem d_law_1055 : decode code 1055 = .ok (.aload_n 3, 1) := by decide +kernel
theorem d_law_1056 : decode code 1056 = .ok (.invokestatic 117, 3) := by decide +kernel
theorem d_law_1059 : decode code 1059 = .ok (.istore 5, 2) := by decide +kernel
theorem d_law_1061 : decode code 1061 = .ok (.aload_n 2, 1) := by decide +kernel
theorem d_law_1062 : decode code 1062 = .ok (.aload_n 0, 1) := by decide +kernel
theorem d_law_1063 : decode code 1063 = .ok (.iload 4, 2) := by decide +kernel
theorem d_law_1065 : decode code 1065 = .ok (.iconst 1, 1) := by decide +kernel
theorem d_law_1066 : decode code 1066 = .ok (.iadd, 1) := by decide +kernel
theorem d_law_1067 : decode code 1067 = .ok (.iaload, 1) := by decide +kernel
theorem d_law_1068 : decode code 1068 = .ok (.invokevirtual 119, 3) := by decide +kernel
theorem d_law_1071 : decode code 1071 = .ok (.istore 6, 2) := by decide +kernel
theorem d_law_1073 : decode code 1073 = .ok (.aload_n 2, 1) := by decide +kernel
theorem d_law_1074 : decode code 1074 = .ok (.invokevirtual 73, 3) := by decide +kernel
theorem d_law_1077 : decode code 1077 = .ok (.iload 5, 2) := by decide +kernel
theorem d_law_1079 : decode code 1079 = .ok (.if_icmp .eq 5, 3) := by decide +kernel
theorem d_law_1082 : decode code 1082 = .ok (.iconst 0, 1) := by decide +kernel
theorem d_law_1084 : decode code 1084 = .ok (.iload 5, 2) := by decide +kernel
theorem d_law_1086 : decode code 1086 = .ok (.ifCond .ne 15, 3) := by decide +kernel
theorem d_law_1089 : decode code 1089 = .ok (.aload_n 3, 1) := by decide +kernel
theorem d_law_1090 : decode code 1090 = .ok (.iconst 0, 1) := by decide +kernel
theorem d_law_1091 : decode code 1091 = .ok (.laload, 1) := by decide +kernel
theorem d_law_1092 : decode code 1092 = .ok (.iload 6, 2) := by decide +kernel
theorem d_law_1094 : decode code 1094 = .ok (.i2l, 1) := by decide +kernel
theorem d_law_1095 : decode code 1095 = .ok (.lcmp, 1) := by decide +kernel
theorem d_law_1096 : decode code 1096 = .ok (.ifCond .eq 5, 3) := by decide +kernel
theorem d_law_1099 : decode code 1099 = .ok (.iconst 0, 1) := by decide +kernel
theorem d_law_1101 : decode code 1101 = .ok (.goto 361, 3) := by decide +kernel
theorem d_law_1104 : decode code 1104 = .ok (.aload_n 1, 1) := by decide +kernel
theorem d_law_1105 : decode code 1105 = .ok (.aload_n 0, 1) := by decide +kernel
theorem d_law_1106 : decode code 1106 = .ok (.iload 4, 2) := by decide +kernel
theorem d_law_1108 : decode code 1108 = .ok (.iconst 1, 1) := by decide +kernel
theorem d_law_1109 : decode code 1109 = .ok (.iadd, 1) := by decide +kernel
theorem d_law_1110 : decode code 1110 = .ok (.iaload, 1) := by decide +kernel
theorem d_law_1111 : decode code 1111 = .ok (.aload_n 0, 1) := by decide +kernel
theorem d_law_1112 : decode code 1112 = .ok (.iload 4, 2) := by decide +kernel
theorem d_law_1114 : decode code 1114 = .ok (.iconst 2, 1) := by decide +kernel
theorem d_law_1115 : decode code 1115 = .ok (.iadd, 1) := by decide +kernel
theorem d_law_1116 : decode code 1116 = .ok (.iaload, 1) := by decide +kernel
theorem d_law_1117 : decode code 1117 = .ok (.aload_n 3, 1) := by decide +kernel
theorem d_law_1118 : decode code 1118 = .ok (.invokestatic 120, 3) := by decide +kernel
theorem d_law_1121 : decode code 1121 = .ok (.istore 5, 2) := by decide +kernel
theorem d_law_1123 : decode code 1123 = .ok (.aload_n 2, 1) := by decide +kernel
theorem d_law_1124 : decode code 1124 = .ok (.aload_n 0, 1) := by decide +kernel
theorem d_law_1125 : decode code 1125 = .ok (.iload 4, 2) := by decide +kernel
theorem d_law_1127 : decode code 1127 = .ok (.iconst 1, 1) := by decide +kernel
theorem d_law_1128 : decode code 1128 = .ok (.iadd, 1) := by decide +kernel
theorem d_law_1129 : decode code 1129 = .ok (.iaload, 1) := by decide +kernel
theorem d_law_1130 : decode code 1130 = .ok (.aload_n 0, 1) := by decide +kernel
theorem d_law_1131 : decode code 1131 = .ok (.iload 4, 2) := by decide +kernel
theorem d_law_1133 : decode code 1133 = .ok (.iconst 2, 1) := by decide +kernel
theorem d_law_1134 : decode code 1134 = .ok (.iadd, 1) := by decide +kernel
theorem d_law_1135 : decode code 1135 = .ok (.iaload, 1) := by decide +kernel
theorem d_law_1136 : decode code 1136 = .ok (.invokevirtual 122, 3) := by decide +kernel
theorem d_law_1139 : decode code 1139 = .ok (.lstore 6, 2) := by decide +kernel
theorem d_law_1141 : decode code 1141 = .ok (.aload_n 2, 1) := by decide +kernel
theorem d_law_1142 : decode code 1142 = .ok (.invokevirtual 73, 3) := by decide +kernel
theorem d_law_1145 : decode code 1145 = .ok (.iload 5, 2) := by decide +kernel
theorem d_law_1147 : decode code 1147 = .ok (.if_icmp .eq 5, 3) := by decide +kernel
theorem d_law_1150 : decode code 1150 = .ok (.iconst 0, 1) := by decide +kernel
theorem d_law_1152 : decode code 1152 = .ok (.iload 5, 2) := by decide +kernel
theorem d_law_1154 : decode code 1154 = .ok (.ifCond .ne 14, 3) := by decide +kernel
theorem d_law_1157 : decode code 1157 = .ok (.aload_n 3, 1) := by decide +kernel
theorem d_law_1158 : decode code 1158 = .ok (.iconst 0, 1) := by decide +kernel
theorem d_law_1159 : decode code 1159 = .ok (.laload, 1) := by decide +kernel
theorem d_law_1160 : decode code 1160 = .ok (.lload 6, 2) := by decide +kernel
theorem d_law_1162 : decode code 1162 = .ok (.lcmp, 1) := by decide +kernel
theorem d_law_1163 : decode code 1163 = .ok (.ifCond .eq 5, 3) := by decide +kernel
theorem d_law_1166 : decode code 1166 = .ok (.iconst 0, 1) := by decide +kernel
theorem d_law_1168 : decode code 1168 = .ok (.goto 294, 3) := by decide +kernel
theorem d_law_1171 : decode code 1171 = .ok (.aload_n 1, 1) := by decide +kernel
theorem d_law_1172 : decode code 1172 = .ok (.aload_n 0, 1) := by decide +kernel
theorem d_law_1173 : decode code 1173 = .ok (.iload 4, 2) := by decide +kernel
theorem d_law_1175 : decode code 1175 = .ok (.iconst 1, 1) := by decide +kernel
theorem d_law_1176 : decode code 1176 = .ok (.iadd, 1) := by decide +kernel
theorem d_law_1177 : decode code 1177 = .ok (.iaload, 1) := by decide +kernel
theorem d_law_1178 : decode code 1178 = .ok (.aload_n 0, 1) := by decide +kernel
theorem d_law_1179 : decode code 1179 = .ok (.iload 4, 2) := by decide +kernel
theorem d_law_1181 : decode code 1181 = .ok (.iconst 2, 1) := by decide +kernel
theorem d_law_1182 : decode code 1182 = .ok (.iadd, 1) := by decide +kernel
theorem d_law_1183 : decode code 1183 = .ok (.iaload, 1) := by decide +kernel
theorem d_law_1184 : decode code 1184 = .ok (.aload_n 3, 1) := by decide +kernel
theorem d_law_1185 : decode code 1185 = .ok (.invokestatic 123, 3) := by decide +kernel
theorem d_law_1188 : decode code 1188 = .ok (.istore 5, 2) := by decide +kernel
theorem d_law_1190 : decode code 1190 = .ok (.aload_n 2, 1) := by decide +kernel
theorem d_law_1191 : decode code 1191 = .ok (.aload_n 0, 1) := by decide +kernel
theorem d_law_1192 : decode code 1192 = .ok (.iload 4, 2) := by decide +kernel
theorem d_law_1194 : decode code 1194 = .ok (.iconst 1, 1) := by decide +kernel
theorem d_law_1195 : decode code 1195 = .ok (.iadd, 1) := by decide +kernel
theorem d_law_1196 : decode code 1196 = .ok (.iaload, 1) := by decide +kernel
theorem d_law_1197 : decode code 1197 = .ok (.aload_n 0, 1) := by decide +kernel
theorem d_law_1198 : decode code 1198 = .ok (.iload 4, 2) := by decide +kernel
theorem d_law_1200 : decode code 1200 = .ok (.iconst 2, 1) := by decide +kernel
theorem d_law_1201 : decode code 1201 = .ok (.iadd, 1) := by decide +kernel
theorem d_law_1202 : decode code 1202 = .ok (.iaload, 1) := by decide +kernel
theorem d_law_1203 : decode code 1203 = .ok (.invokevirtual 125, 3) := by decide +kernel
theorem d_law_1206 : decode code 1206 = .ok (.istore 6, 2) := by decide +kernel
theorem d_law_1208 : decode code 1208 = .ok (.aload_n 2, 1) := by decide +kernel
theorem d_law_1209 : decode code 1209 = .ok (.invokevirtual 73, 3) := by decide +kernel
theorem d_law_1212 : decode code 1212 = .ok (.iload 5, 2) := by decide +kernel
theorem d_law_1214 : decode code 1214 = .ok (.if_icmp .eq 5, 3) := by decide +kernel
theorem d_law_1217 : decode code 1217 = .ok (.iconst 0, 1) := by decide +kernel
theorem d_law_1219 : decode code 1219 = .ok (.iload 5, 2) := by decide +kernel
theorem d_law_1221 : decode code 1221 = .ok (.ifCond .ne 22, 3) := by decide +kernel
theorem d_law_1224 : decode code 1224 = .ok (.aload_n 3, 1) := by decide +kernel
theorem d_law_1225 : decode code 1225 = .ok (.iconst 0, 1) := by decide +kernel
theorem d_law_1226 : decode code 1226 = .ok (.laload, 1) := by decide +kernel
theorem d_law_1227 : decode code 1227 = .ok (.iload 6, 2) := by decide +kernel
theorem d_law_1229 : decode code 1229 = .ok (.ifCond .eq 7, 3) := by decide +kernel
theorem d_law_1232 : decode code 1232 = .ok (.lconst 1, 1) := by decide +kernel
theorem d_law_1233 : decode code 1233 = .ok (.goto 4, 3) := by decide +kernel
theorem d_law_1236 : decode code 1236 = .ok (.lconst 0, 1) := by decide +kernel
theorem d_law_1237 : decode code 1237 = .ok (.lcmp, 1) := by decide +kernel
theorem d_law_1238 : decode code 1238 = .ok (.ifCond .eq 5, 3) := by decide +kernel
theorem d_law_1241 : decode code 1241 = .ok (.iconst 0, 1) := by decide +kernel
theorem d_law_1243 : decode code 1243 = .ok (.goto 219, 3) := by decide +kernel
theorem d_law_1246 : decode code 1246 = .ok (.aload_n 1, 1) := by decide +kernel
theorem d_law_1247 : decode code 1247 = .ok (.aload_n 0, 1) := by decide +kernel
theorem d_law_1248 : decode code 1248 = .ok (.iload 4, 2) := by decide +kernel
theorem d_law_1250 : decode code 1250 = .ok (.iconst 1, 1) := by decide +kernel
theorem d_law_1251 : decode code 1251 = .ok (.iadd, 1) := by decide +kernel
theorem d_law_1252 : decode code 1252 = .ok (.iaload, 1) := by decide +kernel
theorem d_law_1253 : decode code 1253 = .ok (.aload_n 0, 1) := by decide +kernel
theorem d_law_1254 : decode code 1254 = .ok (.iload 4, 2) := by decide +kernel
theorem d_law_1256 : decode code 1256 = .ok (.iconst 2, 1) := by decide +kernel
theorem d_law_1257 : decode code 1257 = .ok (.iadd, 1) := by decide +kernel
theorem d_law_1258 : decode code 1258 = .ok (.iaload, 1) := by decide +kernel
theorem d_law_1259 : decode code 1259 = .ok (.invokevirtual 126, 3) := by decide +kernel
theorem d_law_1262 : decode code 1262 = .ok (.aload_n 2, 1) := by decide +kernel
theorem d_law_1263 : decode code 1263 = .ok (.aload_n 0, 1) := by decide +kernel
theorem d_law_1264 : decode code 1264 = .ok (.iload 4, 2) := by decide +kernel
theorem d_law_1266 : decode code 1266 = .ok (.iconst 1, 1) := by decide +kernel
theorem d_law_1267 : decode code 1267 = .ok (.iadd, 1) := by decide +kernel
theorem d_law_1268 : decode code 1268 = .ok (.iaload, 1) := by decide +kernel
theorem d_law_1269 : decode code 1269 = .ok (.aload_n 0, 1) := by decide +kernel
theorem d_law_1270 : decode code 1270 = .ok (.iload 4, 2) := by decide +kernel
theorem d_law_1272 : decode code 1272 = .ok (.iconst 2, 1) := by decide +kernel
theorem d_law_1273 : decode code 1273 = .ok (.iadd, 1) := by decide +kernel
theorem d_law_1274 : decode code 1274 = .ok (.iaload, 1) := by decide +kernel
theorem d_law_1275 : decode code 1275 = .ok (.invokevirtual 129, 3) := by decide +kernel
theorem d_law_1278 : decode code 1278 = .ok (.if_icmp .eq 184, 3) := by decide +kernel
theorem d_law_1281 : decode code 1281 = .ok (.iconst 0, 1) := by decide +kernel
theorem d_law_1283 : decode code 1283 = .ok (.aload_n 1, 1) := by decide +kernel
theorem d_law_1284 : decode code 1284 = .ok (.aload_n 0, 1) := by decide +kernel
theorem d_law_1285 : decode code 1285 = .ok (.iload 4, 2) := by decide +kernel
theorem d_law_1287 : decode code 1287 = .ok (.iconst 1, 1) := by decide +kernel
theorem d_law_1288 : decode code 1288 = .ok (.iadd, 1) := by decide +kernel
theorem d_law_1289 : decode code 1289 = .ok (.iaload, 1) := by decide +kernel
theorem d_law_1290 : decode code 1290 = .ok (.aload_n 0, 1) := by decide +kernel
theorem d_law_1291 : decode code 1291 = .ok (.iload 4, 2) := by decide +kernel
theorem d_law_1293 : decode code 1293 = .ok (.iconst 2, 1) := by decide +kernel
theorem d_law_1294 : decode code 1294 = .ok (.iadd, 1) := by decide +kernel
theorem d_law_1295 : decode code 1295 = .ok (.iaload, 1) := by decide +kernel
theorem d_law_1296 : decode code 1296 = .ok (.invokevirtual 130, 3) := by decide +kernel
theorem d_law_1299 : decode code 1299 = .ok (.aload_n 2, 1) := by decide +kernel
theorem d_law_1300 : decode code 1300 = .ok (.aload_n 0, 1) := by decide +kernel
theorem d_law_1301 : decode code 1301 = .ok (.iload 4, 2) := by decide +kernel
theorem d_law_1303 : decode code 1303 = .ok (.iconst 1, 1) := by decide +kernel
theorem d_law_1304 : decode code 1304 = .ok (.iadd, 1) := by decide +kernel
theorem d_law_1305 : decode code 1305 = .ok (.iaload, 1) := by decide +kernel
theorem d_law_1306 : decode code 1306 = .ok (.aload_n 0, 1) := by decide +kernel
theorem d_law_1307 : decode code 1307 = .ok (.iload 4, 2) := by decide +kernel
theorem d_law_1309 : decode code 1309 = .ok (.iconst 2, 1) := by decide +kernel
theorem d_law_1310 : decode code 1310 = .ok (.iadd, 1) := by decide +kernel
theorem d_law_1311 : decode code 1311 = .ok (.iaload, 1) := by decide +kernel
theorem d_law_1312 : decode code 1312 = .ok (.invokevirtual 133, 3) := by decide +kernel
theorem d_law_1315 : decode code 1315 = .ok (.if_icmp .eq 147, 3) := by decide +kernel
theorem d_law_1318 : decode code 1318 = .ok (.iconst 0, 1) := by decide +kernel
theorem d_law_1320 : decode code 1320 = .ok (.aload_n 1, 1) := by decide +kernel
theorem d_law_1321 : decode code 1321 = .ok (.aload_n 0, 1) := by decide +kernel
theorem d_law_1322 : decode code 1322 = .ok (.iload 4, 2) := by decide +kernel
theorem d_law_1324 : decode code 1324 = .ok (.iconst 1, 1) := by decide +kernel
theorem d_law_1325 : decode code 1325 = .ok (.iadd, 1) := by decide +kernel
theorem d_law_1326 : decode code 1326 = .ok (.iaload, 1) := by decide +kernel
theorem d_law_1327 : decode code 1327 = .ok (.aload_n 0, 1) := by decide +kernel
theorem d_law_1328 : decode code 1328 = .ok (.iload 4, 2) := by decide +kernel
theorem d_law_1330 : decode code 1330 = .ok (.iconst 2, 1) := by decide +kernel
theorem d_law_1331 : decode code 1331 = .ok (.iadd, 1) := by decide +kernel
theorem d_law_1332 : decode code 1332 = .ok (.iaload, 1) := by decide +kernel
theorem d_law_1333 : decode code 1333 = .ok (.aload_n 0, 1) := by decide +kernel
theorem d_law_1334 : decode code 1334 = .ok (.iload 4, 2) := by decide +kernel
theorem d_law_1336 : decode code 1336 = .ok (.iconst 3, 1) := by decide +kernel
theorem d_law_1337 : decode code 1337 = .ok (.iadd, 1) := by decide +kernel
theorem d_law_1338 : decode code 1338 = .ok (.iaload, 1) := by decide +kernel
theorem d_law_1339 : decode code 1339 = .ok (.aload_n 0, 1) := by decide +kernel
theorem d_law_1340 : decode code 1340 = .ok (.iload 4, 2) := by decide +kernel
theorem d_law_1342 : decode code 1342 = .ok (.iconst 4, 1) := by decide +kernel
theorem d_law_1343 : decode code 1343 = .ok (.iadd, 1) := by decide +kernel
theorem d_law_1344 : decode code 1344 = .ok (.iaload, 1) := by decide +kernel
theorem d_law_1345 : decode code 1345 = .ok (.invokevirtual 134, 3) := by decide +kernel
theorem d_law_1348 : decode code 1348 = .ok (.aload_n 2, 1) := by decide +kernel
theorem d_law_1349 : decode code 1349 = .ok (.aload_n 0, 1) := by decide +kernel
theorem d_law_1350 : decode code 1350 = .ok (.iload 4, 2) := by decide +kernel
theorem d_law_1352 : decode code 1352 = .ok (.iconst 1, 1) := by decide +kernel
theorem d_law_1353 : decode code 1353 = .ok (.iadd, 1) := by decide +kernel
theorem d_law_1354 : decode code 1354 = .ok (.iaload, 1) := by decide +kernel
theorem d_law_1355 : decode code 1355 = .ok (.aload_n 0, 1) := by decide +kernel
theorem d_law_1356 : decode code 1356 = .ok (.iload 4, 2) := by decide +kernel
theorem d_law_1358 : decode code 1358 = .ok (.iconst 2, 1) := by decide +kernel
theorem d_law_1359 : decode code 1359 = .ok (.iadd, 1) := by decide +kernel
theorem d_law_1360 : decode code 1360 = .ok (.iaload, 1) := by decide +kernel
theorem d_law_1361 : decode code 1361 = .ok (.aload_n 0, 1) := by decide +kernel
theorem d_law_1362 : decode code 1362 = .ok (.iload 4, 2) := by decide +kernel
theorem d_law_1364 : decode code 1364 = .ok (.iconst 3, 1) := by decide +kernel
theorem d_law_1365 : decode code 1365 = .ok (.iadd, 1) := by decide +kernel
theorem d_law_1366 : decode code 1366 = .ok (.iaload, 1) := by decide +kernel
theorem d_law_1367 : decode code 1367 = .ok (.aload_n 0, 1) := by decide +kernel
theorem d_law_1368 : decode code 1368 = .ok (.iload 4, 2) := by decide +kernel
theorem d_law_1370 : decode code 1370 = .ok (.iconst 4, 1) := by decide +kernel
theorem d_law_1371 : decode code 1371 = .ok (.iadd, 1) := by decide +kernel
theorem d_law_1372 : decode code 1372 = .ok (.iaload, 1) := by decide +kernel
theorem d_law_1373 : decode code 1373 = .ok (.invokevirtual 138, 3) := by decide +kernel
theorem d_law_1376 : decode code 1376 = .ok (.if_icmp .eq 86, 3) := by decide +kernel
theorem d_law_1379 : decode code 1379 = .ok (.iconst 0, 1) := by decide +kernel
theorem d_law_1381 : decode code 1381 = .ok (.aload_n 1, 1) := by decide +kernel
theorem d_law_1382 : decode code 1382 = .ok (.aload_n 0, 1) := by decide +kernel
theorem d_law_1383 : decode code 1383 = .ok (.iload 4, 2) := by decide +kernel
theorem d_law_1385 : decode code 1385 = .ok (.iconst 1, 1) := by decide +kernel
theorem d_law_1386 : decode code 1386 = .ok (.iadd, 1) := by decide +kernel
theorem d_law_1387 : decode code 1387 = .ok (.iaload, 1) := by decide +kernel
theorem d_law_1388 : decode code 1388 = .ok (.aload_n 0, 1) := by decide +kernel
theorem d_law_1389 : decode code 1389 = .ok (.iload 4, 2) := by decide +kernel
theorem d_law_1391 : decode code 1391 = .ok (.iconst 2, 1) := by decide +kernel
theorem d_law_1392 : decode code 1392 = .ok (.iadd, 1) := by decide +kernel
theorem d_law_1393 : decode code 1393 = .ok (.iaload, 1) := by decide +kernel
theorem d_law_1394 : decode code 1394 = .ok (.invokevirtual 139, 3) := by decide +kernel
theorem d_law_1397 : decode code 1397 = .ok (.aload_n 2, 1) := by decide +kernel
theorem d_law_1398 : decode code 1398 = .ok (.aload_n 0, 1) := by decide +kernel
theorem d_law_1399 : decode code 1399 = .ok (.iload 4, 2) := by decide +kernel
theorem d_law_1401 : decode code 1401 = .ok (.iconst 1, 1) := by decide +kernel
theorem d_law_1402 : decode code 1402 = .ok (.iadd, 1) := by decide +kernel
theorem d_law_1403 : decode code 1403 = .ok (.iaload, 1) := by decide +kernel
theorem d_law_1404 : decode code 1404 = .ok (.aload_n 0, 1) := by decide +kernel
theorem d_law_1405 : decode code 1405 = .ok (.iload 4, 2) := by decide +kernel
theorem d_law_1407 : decode code 1407 = .ok (.iconst 2, 1) := by decide +kernel
theorem d_law_1408 : decode code 1408 = .ok (.iadd, 1) := by decide +kernel
theorem d_law_1409 : decode code 1409 = .ok (.iaload, 1) := by decide +kernel
theorem d_law_1410 : decode code 1410 = .ok (.invokevirtual 142, 3) := by decide +kernel
theorem d_law_1413 : decode code 1413 = .ok (.if_icmp .eq 49, 3) := by decide +kernel
theorem d_law_1416 : decode code 1416 = .ok (.iconst 0, 1) := by decide +kernel
theorem d_law_1418 : decode code 1418 = .ok (.aload_n 1, 1) := by decide +kernel
theorem d_law_1419 : decode code 1419 = .ok (.aload_n 3, 1) := by decide +kernel
theorem d_law_1420 : decode code 1420 = .ok (.invokestatic 143, 3) := by decide +kernel
theorem d_law_1423 : decode code 1423 = .ok (.istore 5, 2) := by decide +kernel
theorem d_law_1425 : decode code 1425 = .ok (.aload_n 2, 1) := by decide +kernel
theorem d_law_1426 : decode code 1426 = .ok (.invokevirtual 146, 3) := by decide +kernel
theorem d_law_1429 : decode code 1429 = .ok (.istore 6, 2) := by decide +kernel
theorem d_law_1431 : decode code 1431 = .ok (.aload_n 2, 1) := by decide +kernel
theorem d_law_1432 : decode code 1432 = .ok (.invokevirtual 73, 3) := by decide +kernel
theorem d_law_1435 : decode code 1435 = .ok (.iload 5, 2) := by decide +kernel
theorem d_law_1437 : decode code 1437 = .ok (.if_icmp .eq 5, 3) := by decide +kernel
theorem d_law_1440 : decode code 1440 = .ok (.iconst 0, 1) := by decide +kernel
theorem d_law_1442 : decode code 1442 = .ok (.iload 5, 2) := by decide +kernel
theorem d_law_1444 : decode code 1444 = .ok (.ifCond .ne 15, 3) := by decide +kernel
theorem d_law_1447 : decode code 1447 = .ok (.aload_n 3, 1) := by decide +kernel
theorem d_law_1448 : decode code 1448 = .ok (.iconst 0, 1) := by decide +kernel
theorem d_law_1449 : decode code 1449 = .ok (.laload, 1) := by decide +kernel
theorem d_law_1450 : decode code 1450 = .ok (.iload 6, 2) := by decide +kernel
theorem d_law_1452 : decode code 1452 = .ok (.i2l, 1) := by decide +kernel
theorem d_law_1453 : decode code 1453 = .ok (.lcmp, 1) := by decide +kernel
theorem d_law_1454 : decode code 1454 = .ok (.ifCond .eq 5, 3) := by decide +kernel
theorem d_law_1457 : decode code 1457 = .ok (.iconst 0, 1) := by decide +kernel
theorem d_law_1459 : decode code 1459 = .ok (.goto 3, 3) := by decide +kernel
noncomputable def g_law_0 (a1 a2 a3 a4 : Int32) (σ : Sg) : Option Sg :=
  bn2 (f_Lw_table a1 σ) (fun (r3 : Int32) (σ1 : Sg) => bn2 (f_Md_table a1 σ1) (fun (r6 : Int32) (σ4 : Sg) => bn2 (f_Md_thrown σ4) (fun (r9 : Int32) (σ7 : Sg) => (if r9 = r3 then (if r3 = 0 then (chk (vp_in 0 1) ((if (gj σ7 44 0 ((0 : Int32).toNatClampNeg)) = r6.toInt64 then (some σ7) else none))) else (some σ7)) else none))))
set_option maxHeartbeats 4000000 in
set_option maxRecDepth 100000 in
theorem s_law_0 {p : Program} {l : Launch} {e : Env} {s : State} {m : MethodId} {args : Array Value} {below : List Frame} {meth : Method} {c : Code} {Q : State → Prop} {b L : Nat} {xs : Nat → Int32} {cells slots n : Nat} {X : GX} {ls : Array Slot} {H : Heap} {locs : List Loc} {σ σ' : Sg} {iv a1 a2 a3 a4 : Int32} (hfl : l.flags = flags0) (F : Fx X p s m c code 8 args "TableMachineLaw") (hP : SL X n σ s.heap H locs) (hl : lv_has ls 8 [(0, .ref b), (1, .ref (xL X 0 0)), (2, .ref (xL X 9 0)), (3, .ref (xL X 44 0)), (4, .int iv)]) (hX : va_X b L xs s s.heap) (hbl : b < s.heap.size) (hin1 : vp_in (iv + 1) L) (hin2 : vp_in (iv + 2) L) (hin3 : vp_in (iv + 3) L) (hin4 : vp_in (iv + 4) L) (hx1 : xs (iv + 1).toNatClampNeg = a1) (hx2 : xs (iv + 2).toNatClampNeg = a2) (hx3 : xs (iv + 3).toNatClampNeg = a3) (hx4 : xs (iv + 4).toNatClampNeg = a4) (hcs : cells + 5 ≤ 601024 ∧ slots + 728 ≤ 7293034) (hf : g_law_0 a1 a2 a3 a4 σ = some σ')
    (kk : ∀ (X : GX) (n : Nat) (H : Heap) (locs : List Loc) (ls : Array Slot), Fx X p s m c code 8 args "TableMachineLaw" → SL X n σ' s.heap H locs → lv_has ls 8 [(0, .ref b), (1, .ref (xL X 0 0)), (2, .ref (xL X 9 0)), (3, .ref (xL X 44 0)), (4, .int iv)] → W p l e room_1 s m args below meth c H locs (cells + 5) (slots + 728) Q (F0 m 1462 ls [])) : W p l e room_1 s m args below meth c H locs cells slots Q (F0 m 128 ls []) := by
  unfold g_law_0 at hf
  refine lv_aload_n F.1 F.2.1 d_law_128 rfl (lv_at hl 1 rfl) ?_
  refine lv_aload_n F.1 F.2.1 d_law_129 rfl (lv_at hl 0 rfl) ?_
  refine lv_iload F.1 F.2.1 d_law_130 (lv_at hl 4 rfl) ?_
  refine lv_iconst (v := 1) F.1 F.2.1 d_law_132 (by decide) ?_
  refine lv_iadd F.1 F.2.1 d_law_133 ?_
  refine h_scr F hP hX hbl hin1 hx1 d_law_134 ?_
  refine lv_aload_n F.1 F.2.1 d_law_135 rfl (lv_at hl 3 rfl) ?_
  obtain ⟨r3, σ1, hk2, hf⟩ := bn2_some hf
  refine h_callT F hP (h_runH (As := [.ref (xL X 0 0), .int a1, .ref (xL X 44 0)]) (rest := []) F hP (c_Lw_table l X n hfl hk2) ⟨by decide, by decide, q_Lw_table⟩ wc_Lw_table w_0 w_287 w_288 ⟨rfl, rfl⟩ ⟨by decide, by decide⟩ hl.1 (Nat.le_of_ble_eq_true rfl) ⟨by show _ ≤ 601024; omega, by show _ ≤ 7293034; omega⟩ d_law_136 rfl) (fun X H locs F hxk hP => ?_)
  have hl : lv_has ls 8 [(0, .ref b), (1, .ref (xL X 0 0)), (2, .ref (xL X 9 0)), (3, .ref (xL X 44 0)), (4, .int iv)] := by rw [hxk 0 (by decide) Nat.zero_lt_one, hxk 9 (by decide) Nat.zero_lt_one, hxk 44 (by decide) Nat.zero_lt_one]; exact hl
  obtain ⟨n, hnn⟩ : ∃ n, n = nt σ1 := ⟨_, rfl⟩
  rw [← hnn] at hP
  refine W.eq (g2 := F0 m 139 ls [.int r3]) rfl ?_
  refine lv_istore F.1 F.2.1 d_law_139 hl (by decide) rfl (fun ls hl => ?_)
  have hl : lv_has ls 8 [(5, .int r3), (0, .ref b), (1, .ref (xL X 0 0)), (2, .ref (xL X 9 0)), (3, .ref (xL X 44 0)), (4, .int iv)] := hl
  refine lv_aload_n F.1 F.2.1 d_law_141 rfl (lv_at hl 3 rfl) ?_
  refine lv_aload_n F.1 F.2.1 d_law_142 rfl (lv_at hl 1 rfl) ?_
  refine lv_iload F.1 F.2.1 d_law_143 (lv_at hl 5 rfl) ?_
  refine lv_iconst (v := 1) F.1 F.2.1 d_law_145 (by decide) ?_
  refine lv_iadd F.1 F.2.1 d_law_146 ?_
  refine h_scr F hP hX hbl hin1 hx1 d_law_147 ?_
  obtain ⟨r6, σ4, hk5, hf⟩ := bn2_some hf
  refine h_callV (As := [.int a1]) (rest := []) F hP 9 0 (by decide) Nat.zero_lt_one (c_Md_table l X n hk5) rfl q_Md_table w_979 w_11 w_976 w_977 w_978 ⟨rfl, rfl⟩ ⟨by decide, by decide⟩ hl.1 (Nat.le_of_ble_eq_true rfl) ⟨by show _ ≤ 601024; omega, by show _ ≤ 7293034; omega⟩ d_law_148 rfl (fun H locs hP => ?_)
  refine W.eq (g2 := F0 m 151 ls [.int r6]) rfl ?_
  refine lv_istore F.1 F.2.1 d_law_151 hl (by decide) rfl (fun ls hl => ?_)
  have hl : lv_has ls 8 [(6, .int r6), (5, .int r3), (0, .ref b), (1, .ref (xL X 0 0)), (2, .ref (xL X 9 0)), (3, .ref (xL X 44 0)), (4, .int iv)] := hl
  refine lv_aload_n F.1 F.2.1 d_law_153 rfl (lv_at hl 4 rfl) ?_
  obtain ⟨r9, σ7, hk8, hf⟩ := bn2_some hf
  refine h_callV (As := []) (rest := []) F hP 9 0 (by decide) Nat.zero_lt_one (c_Md_thrown l X n hk8) rfl q_Md_thrown w_975 w_11 w_972 w_973 w_974 ⟨rfl, rfl⟩ ⟨by decide, by decide⟩ hl.1 (Nat.le_of_ble_eq_true rfl) ⟨by show _ ≤ 601024; omega, by show _ ≤ 7293034; omega⟩ d_law_154 rfl (fun H locs hP => ?_)
  refine W.eq (g2 := F0 m 157 ls [.int r9]) rfl ?_
  refine lv_iload F.1 F.2.1 d_law_157 (lv_at hl 1 rfl) ?_
  refine lv_icmp_eq F.1 F.2.1 d_law_159 rfl (fun hb13 => ?_) (fun hb13 => ?_)
  · rw [if_pos hb13] at hf
    refine lv_iload F.1 F.2.1 d_law_164 (lv_at hl 1 rfl) ?_
    refine lv_if_ne F.1 F.2.1 d_law_166 rfl (fun hb12 => ?_) (fun hb12 => ?_)
    · rw [if_neg hb12] at hf
      refine lv_goto F.1 F.2.1 d_law_181 rfl ?_
      cases hf
      exact kk X n H locs ls F hP (lv_sub hl [2, 3, 4, 5, 6] rfl)
    · rw [if_pos hb12] at hf
      refine lv_aload_n F.1 F.2.1 d_law_169 rfl (lv_at hl 5 rfl) ?_
      refine lv_iconst (v := 0) F.1 F.2.1 d_law_170 (by decide) ?_
      obtain ⟨hc10, hf⟩ := chk_some hf
      refine h_lld F hP 44 (by decide) (by decide) Nat.zero_lt_one rfl rfl hc10 d_law_171 ?_
      refine lv_iload F.1 F.2.1 d_law_172 (lv_at hl 0 rfl) ?_
      refine lv_i2l F.1 F.2.1 d_law_174 rfl ?_
      refine g_lc_eq F d_law_175 d_law_176 rfl (fun hb11 => ?_) (fun hb11 => ?_)
      · rw [if_pos hb11] at hf
        refine lv_goto F.1 F.2.1 d_law_181 rfl ?_
        cases hf
        exact kk X n H locs ls F hP (lv_sub hl [2, 3, 4, 5, 6] rfl)
      · rw [if_neg hb11] at hf
        refine lv_iconst (v := 0) F.1 F.2.1 d_law_179 (by decide) ?_
        cases hf
  · rw [if_neg hb13] at hf
    refine lv_iconst (v := 0) F.1 F.2.1 d_law_162 (by decide) ?_
    cases hf
noncomputable def g_law_1 (a1 a2 a3 a4 : Int32) (σ : Sg) : Option Sg :=
  lt_ ((if a2 = 0 then 0 else 1) : Int32) (fun (x14 : Int32) => bn2 (f_TM_set a1 x14 ((a3.toInt64 <<< ((32 : Int32).toInt64 &&& 63)) ||| (a4.toInt64 &&& 4294967295)) σ) (fun (r20 : Int32) (σ18 : Sg) => lt_ ((if a2 = 0 then 0 else 1) : Int32) (fun (x21 : Int32) => bn2 (f_Md_set a1 x21 ((a3.toInt64 <<< ((32 : Int32).toInt64 &&& 63)) ||| (a4.toInt64 &&& 4294967295)) σ18) (fun (r27 : Int32) (σ25 : Sg) => (if r20 = r27 then (some σ25) else none)))))
set_option maxHeartbeats 4000000 in
set_option maxRecDepth 100000 in
theorem s_law_1 {p : Program} {l : Launch} {e : Env} {s : State} {m : MethodId} {args : Array Value} {below : List Frame} {meth : Method} {c : Code} {Q : State → Prop} {b L : Nat} {xs : Nat → Int32} {cells slots n : Nat} {X : GX} {ls : Array Slot} {H : Heap} {locs : List Loc} {σ σ' : Sg} {iv a1 a2 a3 a4 : Int32} (hfl : l.flags = flags0) (F : Fx X p s m c code 8 args "TableMachineLaw") (hP : SL X n σ s.heap H locs) (hl : lv_has ls 8 [(0, .ref b), (1, .ref (xL X 0 0)), (2, .ref (xL X 9 0)), (3, .ref (xL X 44 0)), (4, .int iv)]) (hX : va_X b L xs s s.heap) (hbl : b < s.heap.size) (hin1 : vp_in (iv + 1) L) (hin2 : vp_in (iv + 2) L) (hin3 : vp_in (iv + 3) L) (hin4 : vp_in (iv + 4) L) (hx1 : xs (iv + 1).toNatClampNeg = a1) (hx2 : xs (iv + 2).toNatClampNeg = a2) (hx3 : xs (iv + 3).toNatClampNeg = a3) (hx4 : xs (iv + 4).toNatClampNeg = a4) (hcs : cells + 5 ≤ 601024 ∧ slots + 728 ≤ 7293034) (hf : g_law_1 a1 a2 a3 a4 σ = some σ')
    (kk : ∀ (X : GX) (n : Nat) (H : Heap) (locs : List Loc) (ls : Array Slot), Fx X p s m c code 8 args "TableMachineLaw" → SL X n σ' s.heap H locs → lv_has ls 8 [(0, .ref b), (1, .ref (xL X 0 0)), (2, .ref (xL X 9 0)), (3, .ref (xL X 44 0)), (4, .int iv)] → W p l e room_1 s m args below meth c H locs (cells + 5) (slots + 728) Q (F0 m 1462 ls [])) : W p l e room_1 s m args below meth c H locs cells slots Q (F0 m 184 ls []) := by
  unfold g_law_1 at hf
  refine lv_aload_n F.1 F.2.1 d_law_184 rfl (lv_at hl 1 rfl) ?_
  refine lv_aload_n F.1 F.2.1 d_law_185 rfl (lv_at hl 0 rfl) ?_
  refine lv_iload F.1 F.2.1 d_law_186 (lv_at hl 4 rfl) ?_
  refine lv_iconst (v := 1) F.1 F.2.1 d_law_188 (by decide) ?_
  refine lv_iadd F.1 F.2.1 d_law_189 ?_
  refine h_scr F hP hX hbl hin1 hx1 d_law_190 ?_
  refine lv_aload_n F.1 F.2.1 d_law_191 rfl (lv_at hl 0 rfl) ?_
  refine lv_iload F.1 F.2.1 d_law_192 (lv_at hl 4 rfl) ?_
  refine lv_iconst (v := 2) F.1 F.2.1 d_law_194 (by decide) ?_
  refine lv_iadd F.1 F.2.1 d_law_195 ?_
  refine h_scr F hP hX hbl hin2 hx2 d_law_196 ?_
  obtain ⟨x14, hj16, hf⟩ := lt_some2 hf
  have KJ15 : ∀ (ls : Array Slot) (H : Heap) (locs : List Loc), lv_has ls 8 [(0, .ref b), (1, .ref (xL X 0 0)), (2, .ref (xL X 9 0)), (3, .ref (xL X 44 0)), (4, .int iv)] → SL X n σ s.heap H locs → W p l e room_1 s m args below meth c H locs cells slots Q (F0 m 205 ls [.int x14, .int a1, .ref (xL X 0 0)]) := by
    intro ls H locs hl hP
    refine lv_aload_n F.1 F.2.1 d_law_205 rfl (lv_at hl 0 rfl) ?_
    refine lv_iload F.1 F.2.1 d_law_206 (lv_at hl 4 rfl) ?_
    refine lv_iconst (v := 3) F.1 F.2.1 d_law_208 (by decide) ?_
    refine lv_iadd F.1 F.2.1 d_law_209 ?_
    refine h_scr F hP hX hbl hin3 hx3 d_law_210 ?_
    refine lv_i2l F.1 F.2.1 d_law_211 rfl ?_
    refine lv_bipush (v := 32) F.1 F.2.1 d_law_212 (by decide) ?_
    refine lv_lshl F.1 F.2.1 d_law_214 rfl ?_
    refine lv_aload_n F.1 F.2.1 d_law_215 rfl (lv_at hl 0 rfl) ?_
    refine lv_iload F.1 F.2.1 d_law_216 (lv_at hl 4 rfl) ?_
    refine lv_iconst (v := 4) F.1 F.2.1 d_law_218 (by decide) ?_
    refine lv_iadd F.1 F.2.1 d_law_219 ?_
    refine h_scr F hP hX hbl hin4 hx4 d_law_220 ?_
    refine lv_i2l F.1 F.2.1 d_law_221 rfl ?_
    refine lv_ldc2 F.1 F.2.1 F.2.2.2.1 (F.2.2.2.2.1 _ w_1159) d_law_222 ?_
    refine lv_land F.1 F.2.1 d_law_225 ?_
    refine lv_lor F.1 F.2.1 d_law_226 ?_
    obtain ⟨r20, σ18, hk19, hf⟩ := bn2_some hf
    refine h_callV (As := [.int a1, .int x14, .long ((a3.toInt64 <<< ((32 : Int32).toInt64 &&& 63)) ||| (a4.toInt64 &&& 4294967295))]) (rest := []) F hP 0 0 (by decide) Nat.zero_lt_one (c_TM_set l X n hk19) rfl q_TM_set w_246 w_1 w_243 w_244 w_245 ⟨rfl, rfl⟩ ⟨by decide, by decide⟩ hl.1 (Nat.le_of_ble_eq_true rfl) ⟨by show _ ≤ 601024; omega, by show _ ≤ 7293034; omega⟩ d_law_227 rfl (fun H locs hP => ?_)
    refine W.eq (g2 := F0 m 230 ls [.int r20]) rfl ?_
    refine lv_aload_n F.1 F.2.1 d_law_230 rfl (lv_at hl 2 rfl) ?_
    refine lv_aload_n F.1 F.2.1 d_law_231 rfl (lv_at hl 0 rfl) ?_
    refine lv_iload F.1 F.2.1 d_law_232 (lv_at hl 4 rfl) ?_
    refine lv_iconst (v := 1) F.1 F.2.1 d_law_234 (by decide) ?_
    refine lv_iadd F.1 F.2.1 d_law_235 ?_
    refine h_scr F hP hX hbl hin1 hx1 d_law_236 ?_
    refine lv_aload_n F.1 F.2.1 d_law_237 rfl (lv_at hl 0 rfl) ?_
    refine lv_iload F.1 F.2.1 d_law_238 (lv_at hl 4 rfl) ?_
    refine lv_iconst (v := 2) F.1 F.2.1 d_law_240 (by decide) ?_
    refine lv_iadd F.1 F.2.1 d_law_241 ?_
    refine h_scr F hP hX hbl hin2 hx2 d_law_242 ?_
    obtain ⟨x21, hj23, hf⟩ := lt_some2 hf
    have KJ22 : ∀ (ls : Array Slot) (H : Heap) (locs : List Loc), lv_has ls 8 [(0, .ref b), (1, .ref (xL X 0 0)), (2, .ref (xL X 9 0)), (3, .ref (xL X 44 0)), (4, .int iv)] → SL X n σ18 s.heap H locs → W p l e room_1 s m args below meth c H locs cells slots Q (F0 m 251 ls [.int x21, .int a1, .ref (xL X 9 0), .int r20]) := by
      intro ls H locs hl hP
      refine lv_aload_n F.1 F.2.1 d_law_251 rfl (lv_at hl 0 rfl) ?_
      refine lv_iload F.1 F.2.1 d_law_252 (lv_at hl 4 rfl) ?_
      refine lv_iconst (v := 3) F.1 F.2.1 d_law_254 (by decide) ?_
      refine lv_iadd F.1 F.2.1 d_law_255 ?_
      refine h_scr F hP hX hbl hin3 hx3 d_law_256 ?_
      refine lv_i2l F.1 F.2.1 d_law_257 rfl ?_
      refine lv_bipush (v := 32) F.1 F.2.1 d_law_258 (by decide) ?_
      refine lv_lshl F.1 F.2.1 d_law_260 rfl ?_
      refine lv_aload_n F.1 F.2.1 d_law_261 rfl (lv_at hl 0 rfl) ?_
      refine lv_iload F.1 F.2.1 d_law_262 (lv_at hl 4 rfl) ?_
      refine lv_iconst (v := 4) F.1 F.2.1 d_law_264 (by decide) ?_
      refine lv_iadd F.1 F.2.1 d_law_265 ?_
      refine h_scr F hP hX hbl hin4 hx4 d_law_266 ?_
      refine lv_i2l F.1 F.2.1 d_law_267 rfl ?_
      refine lv_ldc2 F.1 F.2.1 F.2.2.2.1 (F.2.2.2.2.1 _ w_1159) d_law_268 ?_
      refine lv_land F.1 F.2.1 d_law_271 ?_
      refine lv_lor F.1 F.2.1 d_law_272 ?_
      obtain ⟨r27, σ25, hk26, hf⟩ := bn2_some hf
      refine h_callV (As := [.int a1, .int x21, .long ((a3.toInt64 <<< ((32 : Int32).toInt64 &&& 63)) ||| (a4.toInt64 &&& 4294967295))]) (rest := [.int r20]) F hP 9 0 (by decide) Nat.zero_lt_one (c_Md_set l X n hk26) rfl q_Md_set w_983 w_11 w_980 w_981 w_982 ⟨rfl, rfl⟩ ⟨by decide, by decide⟩ hl.1 (Nat.le_of_ble_eq_true rfl) ⟨by show _ ≤ 601024; omega, by show _ ≤ 7293034; omega⟩ d_law_273 rfl (fun H locs hP => ?_)
      refine W.eq (g2 := F0 m 276 ls [.int r27, .int r20]) rfl ?_
      refine lv_icmp_eq F.1 F.2.1 d_law_276 rfl (fun hb28 => ?_) (fun hb28 => ?_)
      · rw [if_pos hb28] at hf
        cases hf
        exact W.widen (by omega) (by omega) (kk X n H locs ls F hP (lv_sub hl [0, 1, 2, 3, 4] rfl))
      · rw [if_neg hb28] at hf
        refine lv_iconst (v := 0) F.1 F.2.1 d_law_279 (by decide) ?_
        cases hf
    refine lv_if_eq F.1 F.2.1 d_law_243 rfl (fun hb24 => ?_) (fun hb24 => ?_)
    · rw [if_pos hb24] at hj23
      refine lv_iconst (v := 0) F.1 F.2.1 d_law_250 (by decide) ?_
      subst hj23
      exact KJ22 _ _ _ (lv_sub hl [0, 1, 2, 3, 4] rfl) hP
    · rw [if_neg hb24] at hj23
      refine lv_iconst (v := 1) F.1 F.2.1 d_law_246 (by decide) ?_
      refine lv_goto F.1 F.2.1 d_law_247 rfl ?_
      subst hj23
      exact KJ22 _ _ _ (lv_sub hl [0, 1, 2, 3, 4] rfl) hP
  refine lv_if_eq F.1 F.2.1 d_law_197 rfl (fun hb17 => ?_) (fun hb17 => ?_)
  · rw [if_pos hb17] at hj16
    refine lv_iconst (v := 0) F.1 F.2.1 d_law_204 (by decide) ?_
    subst hj16
    exact KJ15 _ _ _ (lv_sub hl [0, 1, 2, 3, 4] rfl) hP
  · rw [if_neg hb17] at hj16
    refine lv_iconst (v := 1) F.1 F.2.1 d_law_200 (by decide) ?_
    refine lv_goto F.1 F.2.1 d_law_201 rfl ?_
    subst hj16
    exact KJ15 _ _ _ (lv_sub hl [0, 1, 2, 3, 4] rfl) hP
noncomputable def g_law_2 (a1 a2 a3 a4 : Int32) (σ : Sg) : Option Sg :=
  bn2 (f_Lw_insert a1 ((a2.toInt64 <<< ((32 : Int32).toInt64 &&& 63)) ||| (a3.toInt64 &&& 4294967295)) σ) (fun (r31 : Int32) (σ29 : Sg) => bn2 (f_Md_insert a1 ((a2.toInt64 <<< ((32 : Int32).toInt64 &&& 63)) ||| (a3.toInt64 &&& 4294967295)) σ29) (fun (r34 : Int32) (σ32 : Sg) => bn2 (f_Md_thrown σ32) (fun (r37 : Int32) (σ35 : Sg) => (if r37 = r31 then (if r31 = 0 then (chk (vp_in 0 1) (lt_ ((if r34 = 0 then 0 else 1) : Int64) (fun (x39 : Int64) => (if (gj σ35 44 0 ((0 : Int32).toNatClampNeg)) = x39 then (some σ35) else none)))) else (some σ35)) else none))))
set_option maxHeartbeats 4000000 in
set_option maxRecDepth 100000 in
theorem s_law_2 {p : Program} {l : Launch} {e : Env} {s : State} {m : MethodId} {args : Array Value} {below : List Frame} {meth : Method} {c : Code} {Q : State → Prop} {b L : Nat} {xs : Nat → Int32} {cells slots n : Nat} {X : GX} {ls : Array Slot} {H : Heap} {locs : List Loc} {σ σ' : Sg} {iv a1 a2 a3 a4 : Int32} (hfl : l.flags = flags0) (F : Fx X p s m c code 8 args "TableMachineLaw") (hP : SL X n σ s.heap H locs) (hl : lv_has ls 8 [(0, .ref b), (1, .ref (xL X 0 0)), (2, .ref (xL X 9 0)), (3, .ref (xL X 44 0)), (4, .int iv)]) (hX : va_X b L xs s s.heap) (hbl : b < s.heap.size) (hin1 : vp_in (iv + 1) L) (hin2 : vp_in (iv + 2) L) (hin3 : vp_in (iv + 3) L) (hin4 : vp_in (iv + 4) L) (hx1 : xs (iv + 1).toNatClampNeg = a1) (hx2 : xs (iv + 2).toNatClampNeg = a2) (hx3 : xs (iv + 3).toNatClampNeg = a3) (hx4 : xs (iv + 4).toNatClampNeg = a4) (hcs : cells + 5 ≤ 601024 ∧ slots + 728 ≤ 7293034) (hf : g_law_2 a1 a2 a3 a4 σ = some σ')
    (kk : ∀ (X : GX) (n : Nat) (H : Heap) (locs : List Loc) (ls : Array Slot), Fx X p s m c code 8 args "TableMachineLaw" → SL X n σ' s.heap H locs → lv_has ls 8 [(0, .ref b), (1, .ref (xL X 0 0)), (2, .ref (xL X 9 0)), (3, .ref (xL X 44 0)), (4, .int iv)] → W p l e room_1 s m args below meth c H locs (cells + 5) (slots + 728) Q (F0 m 1462 ls [])) : W p l e room_1 s m args below meth c H locs cells slots Q (F0 m 281 ls []) := by
  unfold g_law_2 at hf
  refine lv_aload_n F.1 F.2.1 d_law_281 rfl (lv_at hl 1 rfl) ?_
  refine lv_aload_n F.1 F.2.1 d_law_282 rfl (lv_at hl 0 rfl) ?_
  refine lv_iload F.1 F.2.1 d_law_283 (lv_at hl 4 rfl) ?_
  refine lv_iconst (v := 1) F.1 F.2.1 d_law_285 (by decide) ?_
  refine lv_iadd F.1 F.2.1 d_law_286 ?_
  refine h_scr F hP hX hbl hin1 hx1 d_law_287 ?_
  refine lv_aload_n F.1 F.2.1 d_law_288 rfl (lv_at hl 0 rfl) ?_
  refine lv_iload F.1 F.2.1 d_law_289 (lv_at hl 4 rfl) ?_
  refine lv_iconst (v := 2) F.1 F.2.1 d_law_291 (by decide) ?_
  refine lv_iadd F.1 F.2.1 d_law_292 ?_
  refine h_scr F hP hX hbl hin2 hx2 d_law_293 ?_
  refine lv_i2l F.1 F.2.1 d_law_294 rfl ?_
  refine lv_bipush (v := 32) F.1 F.2.1 d_law_295 (by decide) ?_
  refine lv_lshl F.1 F.2.1 d_law_297 rfl ?_
  refine lv_aload_n F.1 F.2.1 d_law_298 rfl (lv_at hl 0 rfl) ?_
  refine lv_iload F.1 F.2.1 d_law_299 (lv_at hl 4 rfl) ?_
  refine lv_iconst (v := 3) F.1 F.2.1 d_law_301 (by decide) ?_
  refine lv_iadd F.1 F.2.1 d_law_302 ?_
  refine h_scr F hP hX hbl hin3 hx3 d_law_303 ?_
  refine lv_i2l F.1 F.2.1 d_law_304 rfl ?_
  refine lv_ldc2 F.1 F.2.1 F.2.2.2.1 (F.2.2.2.2.1 _ w_1159) d_law_305 ?_
  refine lv_land F.1 F.2.1 d_law_308 ?_
  refine lv_lor F.1 F.2.1 d_law_309 ?_
  refine lv_aload_n F.1 F.2.1 d_law_310 rfl (lv_at hl 3 rfl) ?_
  obtain ⟨r31, σ29, hk30, hf⟩ := bn2_some hf
  refine h_callH hP (h_runH (As := [.ref (xL X 0 0), .int a1, .long ((a2.toInt64 <<< ((32 : Int32).toInt64 &&& 63)) ||| (a3.toInt64 &&& 4294967295)), .ref (xL X 44 0)]) (rest := []) F hP (c_Lw_insert l X n hfl hk30) ⟨by decide, by decide, q_Lw_insert⟩ wc_Lw_insert w_0 w_441 w_442 ⟨rfl, rfl⟩ ⟨by decide, by decide⟩ hl.1 (Nat.le_of_ble_eq_true rfl) ⟨by show _ ≤ 601024; omega, by show _ ≤ 7293034; omega⟩ d_law_311 rfl) (fun H locs hP => ?_)
  refine W.eq (g2 := F0 m 314 ls [.int r31]) rfl ?_
  refine lv_istore F.1 F.2.1 d_law_314 hl (by decide) rfl (fun ls hl => ?_)
  have hl : lv_has ls 8 [(5, .int r31), (0, .ref b), (1, .ref (xL X 0 0)), (2, .ref (xL X 9 0)), (3, .ref (xL X 44 0)), (4, .int iv)] := hl
  refine lv_aload_n F.1 F.2.1 d_law_316 rfl (lv_at hl 3 rfl) ?_
  refine lv_aload_n F.1 F.2.1 d_law_317 rfl (lv_at hl 1 rfl) ?_
  refine lv_iload F.1 F.2.1 d_law_318 (lv_at hl 5 rfl) ?_
  refine lv_iconst (v := 1) F.1 F.2.1 d_law_320 (by decide) ?_
  refine lv_iadd F.1 F.2.1 d_law_321 ?_
  refine h_scr F hP hX hbl hin1 hx1 d_law_322 ?_
  refine lv_aload_n F.1 F.2.1 d_law_323 rfl (lv_at hl 1 rfl) ?_
  refine lv_iload F.1 F.2.1 d_law_324 (lv_at hl 5 rfl) ?_
  refine lv_iconst (v := 2) F.1 F.2.1 d_law_326 (by decide) ?_
  refine lv_iadd F.1 F.2.1 d_law_327 ?_
  refine h_scr F hP hX hbl hin2 hx2 d_law_328 ?_
  refine lv_i2l F.1 F.2.1 d_law_329 rfl ?_
  refine lv_bipush (v := 32) F.1 F.2.1 d_law_330 (by decide) ?_
  refine lv_lshl F.1 F.2.1 d_law_332 rfl ?_
  refine lv_aload_n F.1 F.2.1 d_law_333 rfl (lv_at hl 1 rfl) ?_
  refine lv_iload F.1 F.2.1 d_law_334 (lv_at hl 5 rfl) ?_
  refine lv_iconst (v := 3) F.1 F.2.1 d_law_336 (by decide) ?_
  refine lv_iadd F.1 F.2.1 d_law_337 ?_
  refine h_scr F hP hX hbl hin3 hx3 d_law_338 ?_
  refine lv_i2l F.1 F.2.1 d_law_339 rfl ?_
  refine lv_ldc2 F.1 F.2.1 F.2.2.2.1 (F.2.2.2.2.1 _ w_1159) d_law_340 ?_
  refine lv_land F.1 F.2.1 d_law_343 ?_
  refine lv_lor F.1 F.2.1 d_law_344 ?_
  obtain ⟨r34, σ32, hk33, hf⟩ := bn2_some hf
  refine h_callV (As := [.int a1, .long ((a2.toInt64 <<< ((32 : Int32).toInt64 &&& 63)) ||| (a3.toInt64 &&& 4294967295))]) (rest := []) F hP 9 0 (by decide) Nat.zero_lt_one (c_Md_insert l X n hk33) rfl q_Md_insert w_987 w_11 w_984 w_985 w_986 ⟨rfl, rfl⟩ ⟨by decide, by decide⟩ hl.1 (Nat.le_of_ble_eq_true rfl) ⟨by show _ ≤ 601024; omega, by show _ ≤ 7293034; omega⟩ d_law_345 rfl (fun H locs hP => ?_)
  refine W.eq (g2 := F0 m 348 ls [.int r34]) rfl ?_
  refine lv_istore F.1 F.2.1 d_law_348 hl (by decide) rfl (fun ls hl => ?_)
  have hl : lv_has ls 8 [(6, .int r34), (5, .int r31), (0, .ref b), (1, .ref (xL X 0 0)), (2, .ref (xL X 9 0)), (3, .ref (xL X 44 0)), (4, .int iv)] := hl
  refine lv_aload_n F.1 F.2.1 d_law_350 rfl (lv_at hl 4 rfl) ?_
  obtain ⟨r37, σ35, hk36, hf⟩ := bn2_some hf
  refine h_callV (As := []) (rest := []) F hP 9 0 (by decide) Nat.zero_lt_one (c_Md_thrown l X n hk36) rfl q_Md_thrown w_975 w_11 w_972 w_973 w_974 ⟨rfl, rfl⟩ ⟨by decide, by decide⟩ hl.1 (Nat.le_of_ble_eq_true rfl) ⟨by show _ ≤ 601024; omega, by show _ ≤ 7293034; omega⟩ d_law_351 rfl (fun H locs hP => ?_)
  refine W.eq (g2 := F0 m 354 ls [.int r37]) rfl ?_
  refine lv_iload F.1 F.2.1 d_law_354 (lv_at hl 1 rfl) ?_
  refine lv_icmp_eq F.1 F.2.1 d_law_356 rfl (fun hb45 => ?_) (fun hb45 => ?_)
  · rw [if_pos hb45] at hf
    refine lv_iload F.1 F.2.1 d_law_361 (lv_at hl 1 rfl) ?_
    refine lv_if_ne F.1 F.2.1 d_law_363 rfl (fun hb44 => ?_) (fun hb44 => ?_)
    · rw [if_neg hb44] at hf
      refine lv_goto F.1 F.2.1 d_law_385 rfl ?_
      cases hf
      exact kk X n H locs ls F hP (lv_sub hl [2, 3, 4, 5, 6] rfl)
    · rw [if_pos hb44] at hf
      refine lv_aload_n F.1 F.2.1 d_law_366 rfl (lv_at hl 5 rfl) ?_
      refine lv_iconst (v := 0) F.1 F.2.1 d_law_367 (by decide) ?_
      obtain ⟨hc38, hf⟩ := chk_some hf
      refine h_lld F hP 44 (by decide) (by decide) Nat.zero_lt_one rfl rfl hc38 d_law_368 ?_
      refine lv_iload F.1 F.2.1 d_law_369 (lv_at hl 0 rfl) ?_
      obtain ⟨x39, hj41, hf⟩ := lt_some2 hf
      have KJ40 : ∀ (ls : Array Slot) (H : Heap) (locs : List Loc), lv_has ls 8 [(0, .ref b), (1, .ref (xL X 0 0)), (2, .ref (xL X 9 0)), (3, .ref (xL X 44 0)), (4, .int iv)] → SL X n σ35 s.heap H locs → W p l e room_1 s m args below meth c H locs (cells + 5) (slots + 728) Q (F0 m 379 ls [.long x39, .long (gj σ35 44 0 ((0 : Int32).toNatClampNeg))]) := by
        intro ls H locs hl hP
        refine g_lc_eq F d_law_379 d_law_380 rfl (fun hb43 => ?_) (fun hb43 => ?_)
        · rw [if_pos hb43] at hf
          refine lv_goto F.1 F.2.1 d_law_385 rfl ?_
          cases hf
          exact kk X n H locs ls F hP (lv_sub hl [0, 1, 2, 3, 4] rfl)
        · rw [if_neg hb43] at hf
          refine lv_iconst (v := 0) F.1 F.2.1 d_law_383 (by decide) ?_
          cases hf
      refine lv_if_eq F.1 F.2.1 d_law_371 rfl (fun hb42 => ?_) (fun hb42 => ?_)
      · rw [if_pos hb42] at hj41
        refine lv_lconst (v := 0) F.1 F.2.1 d_law_378 (by decide) ?_
        subst hj41
        exact KJ40 _ _ _ (lv_sub hl [2, 3, 4, 5, 6] rfl) hP
      · rw [if_neg hb42] at hj41
        refine lv_lconst (v := 1) F.1 F.2.1 d_law_374 (by decide) ?_
        refine lv_goto F.1 F.2.1 d_law_375 rfl ?_
        subst hj41
        exact KJ40 _ _ _ (lv_sub hl [2, 3, 4, 5, 6] rfl) hP
  · rw [if_neg hb45] at hf
    refine lv_iconst (v := 0) F.1 F.2.1 d_law_359 (by decide) ?_
    cases hf
noncomputable def g_law_3 (a1 a2 a3 a4 : Int32) (σ : Sg) : Option Sg :=
  bn2 (f_Lw_delete a1 ((a2.toInt64 <<< ((32 : Int32).toInt64 &&& 63)) ||| (a3.toInt64 &&& 4294967295)) σ) (fun (r48 : Int32) (σ46 : Sg) => bn2 (f_Md_delete a1 ((a2.toInt64 <<< ((32 : Int32).toInt64 &&& 63)) ||| (a3.toInt64 &&& 4294967295)) σ46) (fun (r51 : Int32) (σ49 : Sg) => bn2 (f_Md_thrown σ49) (fun (r54 : Int32) (σ52 : Sg) => (if r54 = r48 then (if r48 = 0 then (chk (vp_in 0 1) (lt_ ((if r51 = 0 then 0 else 1) : Int64) (fun (x56 : Int64) => (if (gj σ52 44 0 ((0 : Int32).toNatClampNeg)) = x56 then (some σ52) else none)))) else (some σ52)) else none))))
set_option maxHeartbeats 4000000 in
set_option maxRecDepth 100000 in
theorem s_law_3 {p : Program} {l : Launch} {e : Env} {s : State} {m : MethodId} {args : Array Value} {below : List Frame} {meth : Method} {c : Code} {Q : State → Prop} {b L : Nat} {xs : Nat → Int32} {cells slots n : Nat} {X : GX} {ls : Array Slot} {H : Heap} {locs : List Loc} {σ σ' : Sg} {iv a1 a2 a3 a4 : Int32} (hfl : l.flags = flags0) (F : Fx X p s m c code 8 args "TableMachineLaw") (hP : SL X n σ s.heap H locs) (hl : lv_has ls 8 [(0, .ref b), (1, .ref (xL X 0 0)), (2, .ref (xL X 9 0)), (3, .ref (xL X 44 0)), (4, .int iv)]) (hX : va_X b L xs s s.heap) (hbl : b < s.heap.size) (hin1 : vp_in (iv + 1) L) (hin2 : vp_in (iv + 2) L) (hin3 : vp_in (iv + 3) L) (hin4 : vp_in (iv + 4) L) (hx1 : xs (iv + 1).toNatClampNeg = a1) (hx2 : xs (iv + 2).toNatClampNeg = a2) (hx3 : xs (iv + 3).toNatClampNeg = a3) (hx4 : xs (iv + 4).toNatClampNeg = a4) (hcs : cells + 5 ≤ 601024 ∧ slots + 728 ≤ 7293034) (hf : g_law_3 a1 a2 a3 a4 σ = some σ')
    (kk : ∀ (X : GX) (n : Nat) (H : Heap) (locs : List Loc) (ls : Array Slot), Fx X p s m c code 8 args "TableMachineLaw" → SL X n σ' s.heap H locs → lv_has ls 8 [(0, .ref b), (1, .ref (xL X 0 0)), (2, .ref (xL X 9 0)), (3, .ref (xL X 44 0)), (4, .int iv)] → W p l e room_1 s m args below meth c H locs (cells + 5) (slots + 728) Q (F0 m 1462 ls [])) : W p l e room_1 s m args below meth c H locs cells slots Q (F0 m 388 ls []) := by
  unfold g_law_3 at hf
  refine lv_aload_n F.1 F.2.1 d_law_388 rfl (lv_at hl 1 rfl) ?_
  refine lv_aload_n F.1 F.2.1 d_law_389 rfl (lv_at hl 0 rfl) ?_
  refine lv_iload F.1 F.2.1 d_law_390 (lv_at hl 4 rfl) ?_
  refine lv_iconst (v := 1) F.1 F.2.1 d_law_392 (by decide) ?_
  refine lv_iadd F.1 F.2.1 d_law_393 ?_
  refine h_scr F hP hX hbl hin1 hx1 d_law_394 ?_
  refine lv_aload_n F.1 F.2.1 d_law_395 rfl (lv_at hl 0 rfl) ?_
  refine lv_iload F.1 F.2.1 d_law_396 (lv_at hl 4 rfl) ?_
  refine lv_iconst (v := 2) F.1 F.2.1 d_law_398 (by decide) ?_
  refine lv_iadd F.1 F.2.1 d_law_399 ?_
  refine h_scr F hP hX hbl hin2 hx2 d_law_400 ?_
  refine lv_i2l F.1 F.2.1 d_law_401 rfl ?_
  refine lv_bipush (v := 32) F.1 F.2.1 d_law_402 (by decide) ?_
  refine lv_lshl F.1 F.2.1 d_law_404 rfl ?_
  refine lv_aload_n F.1 F.2.1 d_law_405 rfl (lv_at hl 0 rfl) ?_
  refine lv_iload F.1 F.2.1 d_law_406 (lv_at hl 4 rfl) ?_
  refine lv_iconst (v := 3) F.1 F.2.1 d_law_408 (by decide) ?_
  refine lv_iadd F.1 F.2.1 d_law_409 ?_
  refine h_scr F hP hX hbl hin3 hx3 d_law_410 ?_
  refine lv_i2l F.1 F.2.1 d_law_411 rfl ?_
  refine lv_ldc2 F.1 F.2.1 F.2.2.2.1 (F.2.2.2.2.1 _ w_1159) d_law_412 ?_
  refine lv_land F.1 F.2.1 d_law_415 ?_
  refine lv_lor F.1 F.2.1 d_law_416 ?_
  refine lv_aload_n F.1 F.2.1 d_law_417 rfl (lv_at hl 3 rfl) ?_
  obtain ⟨r48, σ46, hk47, hf⟩ := bn2_some hf
  refine h_callH hP (h_runH (As := [.ref (xL X 0 0), .int a1, .long ((a2.toInt64 <<< ((32 : Int32).toInt64 &&& 63)) ||| (a3.toInt64 &&& 4294967295)), .ref (xL X 44 0)]) (rest := []) F hP (c_Lw_delete l X n hfl hk47) ⟨by decide, by decide, q_Lw_delete⟩ wc_Lw_delete w_0 w_545 w_546 ⟨rfl, rfl⟩ ⟨by decide, by decide⟩ hl.1 (Nat.le_of_ble_eq_true rfl) ⟨by show _ ≤ 601024; omega, by show _ ≤ 7293034; omega⟩ d_law_418 rfl) (fun H locs hP => ?_)
  refine W.eq (g2 := F0 m 421 ls [.int r48]) rfl ?_
  refine lv_istore F.1 F.2.1 d_law_421 hl (by decide) rfl (fun ls hl => ?_)
  have hl : lv_has ls 8 [(5, .int r48), (0, .ref b), (1, .ref (xL X 0 0)), (2, .ref (xL X 9 0)), (3, .ref (xL X 44 0)), (4, .int iv)] := hl
  refine lv_aload_n F.1 F.2.1 d_law_423 rfl (lv_at hl 3 rfl) ?_
  refine lv_aload_n F.1 F.2.1 d_law_424 rfl (lv_at hl 1 rfl) ?_
  refine lv_iload F.1 F.2.1 d_law_425 (lv_at hl 5 rfl) ?_
  refine lv_iconst (v := 1) F.1 F.2.1 d_law_427 (by decide) ?_
  refine lv_iadd F.1 F.2.1 d_law_428 ?_
  refine h_scr F hP hX hbl hin1 hx1 d_law_429 ?_
  refine lv_aload_n F.1 F.2.1 d_law_430 rfl (lv_at hl 1 rfl) ?_
  refine lv_iload F.1 F.2.1 d_law_431 (lv_at hl 5 rfl) ?_
  refine lv_iconst (v := 2) F.1 F.2.1 d_law_433 (by decide) ?_
  refine lv_iadd F.1 F.2.1 d_law_434 ?_
  refine h_scr F hP hX hbl hin2 hx2 d_law_435 ?_
  refine lv_i2l F.1 F.2.1 d_law_436 rfl ?_
  refine lv_bipush (v := 32) F.1 F.2.1 d_law_437 (by decide) ?_
  refine lv_lshl F.1 F.2.1 d_law_439 rfl ?_
  refine lv_aload_n F.1 F.2.1 d_law_440 rfl (lv_at hl 1 rfl) ?_
  refine lv_iload F.1 F.2.1 d_law_441 (lv_at hl 5 rfl) ?_
  refine lv_iconst (v := 3) F.1 F.2.1 d_law_443 (by decide) ?_
  refine lv_iadd F.1 F.2.1 d_law_444 ?_
  refine h_scr F hP hX hbl hin3 hx3 d_law_445 ?_
  refine lv_i2l F.1 F.2.1 d_law_446 rfl ?_
  refine lv_ldc2 F.1 F.2.1 F.2.2.2.1 (F.2.2.2.2.1 _ w_1159) d_law_447 ?_
  refine lv_land F.1 F.2.1 d_law_450 ?_
  refine lv_lor F.1 F.2.1 d_law_451 ?_
  obtain ⟨r51, σ49, hk50, hf⟩ := bn2_some hf
  refine h_callV (As := [.int a1, .long ((a2.toInt64 <<< ((32 : Int32).toInt64 &&& 63)) ||| (a3.toInt64 &&& 4294967295))]) (rest := []) F hP 9 0 (by decide) Nat.zero_lt_one (c_Md_delete l X n hk50) rfl q_Md_delete w_1003 w_11 w_1000 w_1001 w_1002 ⟨rfl, rfl⟩ ⟨by decide, by decide⟩ hl.1 (Nat.le_of_ble_eq_true rfl) ⟨by show _ ≤ 601024; omega, by show _ ≤ 7293034; omega⟩ d_law_452 rfl (fun H locs hP => ?_)
  refine W.eq (g2 := F0 m 455 ls [.int r51]) rfl ?_
  refine lv_istore F.1 F.2.1 d_law_455 hl (by decide) rfl (fun ls hl => ?_)
  have hl : lv_has ls 8 [(6, .int r51), (5, .int r48), (0, .ref b), (1, .ref (xL X 0 0)), (2, .ref (xL X 9 0)), (3, .ref (xL X 44 0)), (4, .int iv)] := hl
  refine lv_aload_n F.1 F.2.1 d_law_457 rfl (lv_at hl 4 rfl) ?_
  obtain ⟨r54, σ52, hk53, hf⟩ := bn2_some hf
  refine h_callV (As := []) (rest := []) F hP 9 0 (by decide) Nat.zero_lt_one (c_Md_thrown l X n hk53) rfl q_Md_thrown w_975 w_11 w_972 w_973 w_974 ⟨rfl, rfl⟩ ⟨by decide, by decide⟩ hl.1 (Nat.le_of_ble_eq_true rfl) ⟨by show _ ≤ 601024; omega, by show _ ≤ 7293034; omega⟩ d_law_458 rfl (fun H locs hP => ?_)
  refine W.eq (g2 := F0 m 461 ls [.int r54]) rfl ?_
  refine lv_iload F.1 F.2.1 d_law_461 (lv_at hl 1 rfl) ?_
  refine lv_icmp_eq F.1 F.2.1 d_law_463 rfl (fun hb62 => ?_) (fun hb62 => ?_)
  · rw [if_pos hb62] at hf
    refine lv_iload F.1 F.2.1 d_law_468 (lv_at hl 1 rfl) ?_
    refine lv_if_ne F.1 F.2.1 d_law_470 rfl (fun hb61 => ?_) (fun hb61 => ?_)
    · rw [if_neg hb61] at hf
      refine lv_goto F.1 F.2.1 d_law_492 rfl ?_
      cases hf
      exact kk X n H locs ls F hP (lv_sub hl [2, 3, 4, 5, 6] rfl)
    · rw [if_pos hb61] at hf
      refine lv_aload_n F.1 F.2.1 d_law_473 rfl (lv_at hl 5 rfl) ?_
      refine lv_iconst (v := 0) F.1 F.2.1 d_law_474 (by decide) ?_
      obtain ⟨hc55, hf⟩ := chk_some hf
      refine h_lld F hP 44 (by decide) (by decide) Nat.zero_lt_one rfl rfl hc55 d_law_475 ?_
      refine lv_iload F.1 F.2.1 d_law_476 (lv_at hl 0 rfl) ?_
      obtain ⟨x56, hj58, hf⟩ := lt_some2 hf
      have KJ57 : ∀ (ls : Array Slot) (H : Heap) (locs : List Loc), lv_has ls 8 [(0, .ref b), (1, .ref (xL X 0 0)), (2, .ref (xL X 9 0)), (3, .ref (xL X 44 0)), (4, .int iv)] → SL X n σ52 s.heap H locs → W p l e room_1 s m args below meth c H locs (cells + 5) (slots + 728) Q (F0 m 486 ls [.long x56, .long (gj σ52 44 0 ((0 : Int32).toNatClampNeg))]) := by
        intro ls H locs hl hP
        refine g_lc_eq F d_law_486 d_law_487 rfl (fun hb60 => ?_) (fun hb60 => ?_)
        · rw [if_pos hb60] at hf
          refine lv_goto F.1 F.2.1 d_law_492 rfl ?_
          cases hf
          exact kk X n H locs ls F hP (lv_sub hl [0, 1, 2, 3, 4] rfl)
        · rw [if_neg hb60] at hf
          refine lv_iconst (v := 0) F.1 F.2.1 d_law_490 (by decide) ?_
          cases hf
      refine lv_if_eq F.1 F.2.1 d_law_478 rfl (fun hb59 => ?_) (fun hb59 => ?_)
      · rw [if_pos hb59] at hj58
        refine lv_lconst (v := 0) F.1 F.2.1 d_law_485 (by decide) ?_
        subst hj58
        exact KJ57 _ _ _ (lv_sub hl [2, 3, 4, 5, 6] rfl) hP
      · rw [if_neg hb59] at hj58
        refine lv_lconst (v := 1) F.1 F.2.1 d_law_481 (by decide) ?_
        refine lv_goto F.1 F.2.1 d_law_482 rfl ?_
        subst hj58
        exact KJ57 _ _ _ (lv_sub hl [2, 3, 4, 5, 6] rfl) hP
  · rw [if_neg hb62] at hf
    refine lv_iconst (v := 0) F.1 F.2.1 d_law_466 (by decide) ?_
    cases hf
noncomputable def g_law_4 (a1 a2 a3 a4 : Int32) (σ : Sg) : Option Sg :=
  bn2 (f_TM_count a1 σ) (fun (r65 : Int32) (σ63 : Sg) => bn2 (f_Md_count a1 σ63) (fun (r68 : Int32) (σ66 : Sg) => (if r65 = r68 then (some σ66) else none)))
set_option maxHeartbeats 4000000 in
set_option maxRecDepth 100000 in
theorem s_law_4 {p : Program} {l : Launch} {e : Env} {s : State} {m : MethodId} {args : Array Value} {below : List Frame} {meth : Method} {c : Code} {Q : State → Prop} {b L : Nat} {xs : Nat → Int32} {cells slots n : Nat} {X : GX} {ls : Array Slot} {H : Heap} {locs : List Loc} {σ σ' : Sg} {iv a1 a2 a3 a4 : Int32} (hfl : l.flags = flags0) (F : Fx X p s m c code 8 args "TableMachineLaw") (hP : SL X n σ s.heap H locs) (hl : lv_has ls 8 [(0, .ref b), (1, .ref (xL X 0 0)), (2, .ref (xL X 9 0)), (3, .ref (xL X 44 0)), (4, .int iv)]) (hX : va_X b L xs s s.heap) (hbl : b < s.heap.size) (hin1 : vp_in (iv + 1) L) (hin2 : vp_in (iv + 2) L) (hin3 : vp_in (iv + 3) L) (hin4 : vp_in (iv + 4) L) (hx1 : xs (iv + 1).toNatClampNeg = a1) (hx2 : xs (iv + 2).toNatClampNeg = a2) (hx3 : xs (iv + 3).toNatClampNeg = a3) (hx4 : xs (iv + 4).toNatClampNeg = a4) (hcs : cells + 5 ≤ 601024 ∧ slots + 728 ≤ 7293034) (hf : g_law_4 a1 a2 a3 a4 σ = some σ')
    (kk : ∀ (X : GX) (n : Nat) (H : Heap) (locs : List Loc) (ls : Array Slot), Fx X p s m c code 8 args "TableMachineLaw" → SL X n σ' s.heap H locs → lv_has ls 8 [(0, .ref b), (1, .ref (xL X 0 0)), (2, .ref (xL X 9 0)), (3, .ref (xL X 44 0)), (4, .int iv)] → W p l e room_1 s m args below meth c H locs (cells + 5) (slots + 728) Q (F0 m 1462 ls [])) : W p l e room_1 s m args below meth c H locs cells slots Q (F0 m 495 ls []) := by
  unfold g_law_4 at hf
  refine lv_aload_n F.1 F.2.1 d_law_495 rfl (lv_at hl 1 rfl) ?_
  refine lv_aload_n F.1 F.2.1 d_law_496 rfl (lv_at hl 0 rfl) ?_
  refine lv_iload F.1 F.2.1 d_law_497 (lv_at hl 4 rfl) ?_
  refine lv_iconst (v := 1) F.1 F.2.1 d_law_499 (by decide) ?_
  refine lv_iadd F.1 F.2.1 d_law_500 ?_
  refine h_scr F hP hX hbl hin1 hx1 d_law_501 ?_
  obtain ⟨r65, σ63, hk64, hf⟩ := bn2_some hf
  refine h_callV (As := [.int a1]) (rest := []) F hP 0 0 (by decide) Nat.zero_lt_one (c_TM_count l X n hk64) rfl q_TM_count w_258 w_1 w_255 w_256 w_257 ⟨rfl, rfl⟩ ⟨by decide, by decide⟩ hl.1 (Nat.le_of_ble_eq_true rfl) ⟨by show _ ≤ 601024; omega, by show _ ≤ 7293034; omega⟩ d_law_502 rfl (fun H locs hP => ?_)
  refine W.eq (g2 := F0 m 505 ls [.int r65]) rfl ?_
  refine lv_aload_n F.1 F.2.1 d_law_505 rfl (lv_at hl 2 rfl) ?_
  refine lv_aload_n F.1 F.2.1 d_law_506 rfl (lv_at hl 0 rfl) ?_
  refine lv_iload F.1 F.2.1 d_law_507 (lv_at hl 4 rfl) ?_
  refine lv_iconst (v := 1) F.1 F.2.1 d_law_509 (by decide) ?_
  refine lv_iadd F.1 F.2.1 d_law_510 ?_
  refine h_scr F hP hX hbl hin1 hx1 d_law_511 ?_
  obtain ⟨r68, σ66, hk67, hf⟩ := bn2_some hf
  refine h_callV (As := [.int a1]) (rest := [.int r65]) F hP 9 0 (by decide) Nat.zero_lt_one (c_Md_count l X n hk67) rfl q_Md_count w_1011 w_11 w_1008 w_1009 w_1010 ⟨rfl, rfl⟩ ⟨by decide, by decide⟩ hl.1 (Nat.le_of_ble_eq_true rfl) ⟨by show _ ≤ 601024; omega, by show _ ≤ 7293034; omega⟩ d_law_512 rfl (fun H locs hP => ?_)
  refine W.eq (g2 := F0 m 515 ls [.int r68, .int r65]) rfl ?_
  refine lv_icmp_eq F.1 F.2.1 d_law_515 rfl (fun hb69 => ?_) (fun hb69 => ?_)
  · rw [if_pos hb69] at hf
    cases hf
    exact W.widen (by omega) (by omega) (kk X n H locs ls F hP (lv_sub hl [0, 1, 2, 3, 4] rfl))
  · rw [if_neg hb69] at hf
    refine lv_iconst (v := 0) F.1 F.2.1 d_law_518 (by decide) ?_
    cases hf
noncomputable def g_law_5 (a1 a2 a3 a4 : Int32) (σ : Sg) : Option Sg :=
  lt_ ((if a4 = 0 then 0 else 1) : Int32) (fun (x70 : Int32) => bn2 (f_Lw_next a1 ((a2.toInt64 <<< ((32 : Int32).toInt64 &&& 63)) ||| (a3.toInt64 &&& 4294967295)) x70 σ) (fun (r76 : Int32) (σ74 : Sg) => lt_ ((if a4 = 0 then 0 else 1) : Int32) (fun (x77 : Int32) => bn2 (f_Md_next a1 ((a2.toInt64 <<< ((32 : Int32).toInt64 &&& 63)) ||| (a3.toInt64 &&& 4294967295)) x77 σ74) (fun (r83 : Int64) (σ81 : Sg) => bn2 (f_Md_thrown σ81) (fun (r86 : Int32) (σ84 : Sg) => (if r86 = r76 then (if r76 = 0 then (chk (vp_in 0 1) ((if (gj σ84 44 0 ((0 : Int32).toNatClampNeg)) = r83 then (some σ84) else none))) else (some σ84)) else none))))))
set_option maxHeartbeats 4000000 in
set_option maxRecDepth 100000 in
theorem s_law_5 {p : Program} {l : Launch} {e : Env} {s : State} {m : MethodId} {args : Array Value} {below : List Frame} {meth : Method} {c : Code} {Q : State → Prop} {b L : Nat} {xs : Nat → Int32} {cells slots n : Nat} {X : GX} {ls : Array Slot} {H : Heap} {locs : List Loc} {σ σ' : Sg} {iv a1 a2 a3 a4 : Int32} (hfl : l.flags = flags0) (F : Fx X p s m c code 8 args "TableMachineLaw") (hP : SL X n σ s.heap H locs) (hl : lv_has ls 8 [(0, .ref b), (1, .ref (xL X 0 0)), (2, .ref (xL X 9 0)), (3, .ref (xL X 44 0)), (4, .int iv)]) (hX : va_X b L xs s s.heap) (hbl : b < s.heap.size) (hin1 : vp_in (iv + 1) L) (hin2 : vp_in (iv + 2) L) (hin3 : vp_in (iv + 3) L) (hin4 : vp_in (iv + 4) L) (hx1 : xs (iv + 1).toNatClampNeg = a1) (hx2 : xs (iv + 2).toNatClampNeg = a2) (hx3 : xs (iv + 3).toNatClampNeg = a3) (hx4 : xs (iv + 4).toNatClampNeg = a4) (hcs : cells + 5 ≤ 601024 ∧ slots + 728 ≤ 7293034) (hf : g_law_5 a1 a2 a3 a4 σ = some σ')
    (kk : ∀ (X : GX) (n : Nat) (H : Heap) (locs : List Loc) (ls : Array Slot), Fx X p s m c code 8 args "TableMachineLaw" → SL X n σ' s.heap H locs → lv_has ls 8 [(0, .ref b), (1, .ref (xL X 0 0)), (2, .ref (xL X 9 0)), (3, .ref (xL X 44 0)), (4, .int iv)] → W p l e room_1 s m args below meth c H locs (cells + 5) (slots + 728) Q (F0 m 1462 ls [])) : W p l e room_1 s m args below meth c H locs cells slots Q (F0 m 520 ls []) := by
  unfold g_law_5 at hf
  refine lv_aload_n F.1 F.2.1 d_law_520 rfl (lv_at hl 1 rfl) ?_
  refine lv_aload_n F.1 F.2.1 d_law_521 rfl (lv_at hl 0 rfl) ?_
  refine lv_iload F.1 F.2.1 d_law_522 (lv_at hl 4 rfl) ?_
  refine lv_iconst (v := 1) F.1 F.2.1 d_law_524 (by decide) ?_
  refine lv_iadd F.1 F.2.1 d_law_525 ?_
  refine h_scr F hP hX hbl hin1 hx1 d_law_526 ?_
  refine lv_aload_n F.1 F.2.1 d_law_527 rfl (lv_at hl 0 rfl) ?_
  refine lv_iload F.1 F.2.1 d_law_528 (lv_at hl 4 rfl) ?_
  refine lv_iconst (v := 2) F.1 F.2.1 d_law_530 (by decide) ?_
  refine lv_iadd F.1 F.2.1 d_law_531 ?_
  refine h_scr F hP hX hbl hin2 hx2 d_law_532 ?_
  refine lv_i2l F.1 F.2.1 d_law_533 rfl ?_
  refine lv_bipush (v := 32) F.1 F.2.1 d_law_534 (by decide) ?_
  refine lv_lshl F.1 F.2.1 d_law_536 rfl ?_
  refine lv_aload_n F.1 F.2.1 d_law_537 rfl (lv_at hl 0 rfl) ?_
  refine lv_iload F.1 F.2.1 d_law_538 (lv_at hl 4 rfl) ?_
  refine lv_iconst (v := 3) F.1 F.2.1 d_law_540 (by decide) ?_
  refine lv_iadd F.1 F.2.1 d_law_541 ?_
  refine h_scr F hP hX hbl hin3 hx3 d_law_542 ?_
  refine lv_i2l F.1 F.2.1 d_law_543 rfl ?_
  refine lv_ldc2 F.1 F.2.1 F.2.2.2.1 (F.2.2.2.2.1 _ w_1159) d_law_544 ?_
  refine lv_land F.1 F.2.1 d_law_547 ?_
  refine lv_lor F.1 F.2.1 d_law_548 ?_
  refine lv_aload_n F.1 F.2.1 d_law_549 rfl (lv_at hl 0 rfl) ?_
  refine lv_iload F.1 F.2.1 d_law_550 (lv_at hl 4 rfl) ?_
  refine lv_iconst (v := 4) F.1 F.2.1 d_law_552 (by decide) ?_
  refine lv_iadd F.1 F.2.1 d_law_553 ?_
  refine h_scr F hP hX hbl hin4 hx4 d_law_554 ?_
  obtain ⟨x70, hj72, hf⟩ := lt_some2 hf
  have KJ71 : ∀ (ls : Array Slot) (H : Heap) (locs : List Loc), lv_has ls 8 [(0, .ref b), (1, .ref (xL X 0 0)), (2, .ref (xL X 9 0)), (3, .ref (xL X 44 0)), (4, .int iv)] → SL X n σ s.heap H locs → W p l e room_1 s m args below meth c H locs cells slots Q (F0 m 563 ls [.int x70, .long ((a2.toInt64 <<< ((32 : Int32).toInt64 &&& 63)) ||| (a3.toInt64 &&& 4294967295)), .int a1, .ref (xL X 0 0)]) := by
    intro ls H locs hl hP
    refine lv_aload_n F.1 F.2.1 d_law_563 rfl (lv_at hl 3 rfl) ?_
    obtain ⟨r76, σ74, hk75, hf⟩ := bn2_some hf
    refine h_callH hP (h_runH (As := [.ref (xL X 0 0), .int a1, .long ((a2.toInt64 <<< ((32 : Int32).toInt64 &&& 63)) ||| (a3.toInt64 &&& 4294967295)), .int x70, .ref (xL X 44 0)]) (rest := []) F hP (c_Lw_next l X n hfl hk75) ⟨by decide, by decide, q_Lw_next⟩ wc_Lw_next w_0 w_576 w_577 ⟨rfl, rfl⟩ ⟨by decide, by decide⟩ hl.1 (Nat.le_of_ble_eq_true rfl) ⟨by show _ ≤ 601024; omega, by show _ ≤ 7293034; omega⟩ d_law_564 rfl) (fun H locs hP => ?_)
    refine W.eq (g2 := F0 m 567 ls [.int r76]) rfl ?_
    refine lv_istore F.1 F.2.1 d_law_567 hl (by decide) rfl (fun ls hl => ?_)
    have hl : lv_has ls 8 [(5, .int r76), (0, .ref b), (1, .ref (xL X 0 0)), (2, .ref (xL X 9 0)), (3, .ref (xL X 44 0)), (4, .int iv)] := hl
    refine lv_aload_n F.1 F.2.1 d_law_569 rfl (lv_at hl 3 rfl) ?_
    refine lv_aload_n F.1 F.2.1 d_law_570 rfl (lv_at hl 1 rfl) ?_
    refine lv_iload F.1 F.2.1 d_law_571 (lv_at hl 5 rfl) ?_
    refine lv_iconst (v := 1) F.1 F.2.1 d_law_573 (by decide) ?_
    refine lv_iadd F.1 F.2.1 d_law_574 ?_
    refine h_scr F hP hX hbl hin1 hx1 d_law_575 ?_
    refine lv_aload_n F.1 F.2.1 d_law_576 rfl (lv_at hl 1 rfl) ?_
    refine lv_iload F.1 F.2.1 d_law_577 (lv_at hl 5 rfl) ?_
    refine lv_iconst (v := 2) F.1 F.2.1 d_law_579 (by decide) ?_
    refine lv_iadd F.1 F.2.1 d_law_580 ?_
    refine h_scr F hP hX hbl hin2 hx2 d_law_581 ?_
    refine lv_i2l F.1 F.2.1 d_law_582 rfl ?_
    refine lv_bipush (v := 32) F.1 F.2.1 d_law_583 (by decide) ?_
    refine lv_lshl F.1 F.2.1 d_law_585 rfl ?_
    refine lv_aload_n F.1 F.2.1 d_law_586 rfl (lv_at hl 1 rfl) ?_
    refine lv_iload F.1 F.2.1 d_law_587 (lv_at hl 5 rfl) ?_
    refine lv_iconst (v := 3) F.1 F.2.1 d_law_589 (by decide) ?_
    refine lv_iadd F.1 F.2.1 d_law_590 ?_
    refine h_scr F hP hX hbl hin3 hx3 d_law_591 ?_
    refine lv_i2l F.1 F.2.1 d_law_592 rfl ?_
    refine lv_ldc2 F.1 F.2.1 F.2.2.2.1 (F.2.2.2.2.1 _ w_1159) d_law_593 ?_
    refine lv_land F.1 F.2.1 d_law_596 ?_
    refine lv_lor F.1 F.2.1 d_law_597 ?_
    refine lv_aload_n F.1 F.2.1 d_law_598 rfl (lv_at hl 1 rfl) ?_
    refine lv_iload F.1 F.2.1 d_law_599 (lv_at hl 5 rfl) ?_
    refine lv_iconst (v := 4) F.1 F.2.1 d_law_601 (by decide) ?_
    refine lv_iadd F.1 F.2.1 d_law_602 ?_
    refine h_scr F hP hX hbl hin4 hx4 d_law_603 ?_
    obtain ⟨x77, hj79, hf⟩ := lt_some2 hf
    have KJ78 : ∀ (ls : Array Slot) (H : Heap) (locs : List Loc), lv_has ls 8 [(0, .ref b), (1, .ref (xL X 0 0)), (2, .ref (xL X 9 0)), (3, .ref (xL X 44 0)), (4, .int iv), (5, .int r76)] → SL X n σ74 s.heap H locs → W p l e room_1 s m args below meth c H locs (cells + 5) (slots + 728) Q (F0 m 612 ls [.int x77, .long ((a2.toInt64 <<< ((32 : Int32).toInt64 &&& 63)) ||| (a3.toInt64 &&& 4294967295)), .int a1, .ref (xL X 9 0)]) := by
      intro ls H locs hl hP
      obtain ⟨r83, σ81, hk82, hf⟩ := bn2_some hf
      refine h_callV (As := [.int a1, .long ((a2.toInt64 <<< ((32 : Int32).toInt64 &&& 63)) ||| (a3.toInt64 &&& 4294967295)), .int x77]) (rest := []) F hP 9 0 (by decide) Nat.zero_lt_one (c_Md_next l X n hk82) rfl q_Md_next w_1015 w_11 w_1012 w_1013 w_1014 ⟨rfl, rfl⟩ ⟨by decide, by decide⟩ hl.1 (Nat.le_of_ble_eq_true rfl) ⟨by show _ ≤ 601024; omega, by show _ ≤ 7293034; omega⟩ d_law_612 rfl (fun H locs hP => ?_)
      refine W.eq (g2 := F0 m 615 ls [.long r83]) rfl ?_
      refine lv_lstore F.1 F.2.1 d_law_615 hl (by decide) rfl (fun ls hl => ?_)
      have hl : lv_has ls 8 [(6, .long r83), (0, .ref b), (1, .ref (xL X 0 0)), (2, .ref (xL X 9 0)), (3, .ref (xL X 44 0)), (4, .int iv), (5, .int r76)] := hl
      refine lv_aload_n F.1 F.2.1 d_law_617 rfl (lv_at hl 3 rfl) ?_
      obtain ⟨r86, σ84, hk85, hf⟩ := bn2_some hf
      refine h_callV (As := []) (rest := []) F hP 9 0 (by decide) Nat.zero_lt_one (c_Md_thrown l X n hk85) rfl q_Md_thrown w_975 w_11 w_972 w_973 w_974 ⟨rfl, rfl⟩ ⟨by decide, by decide⟩ hl.1 (Nat.le_of_ble_eq_true rfl) ⟨by show _ ≤ 601024; omega, by show _ ≤ 7293034; omega⟩ d_law_618 rfl (fun H locs hP => ?_)
      refine W.eq (g2 := F0 m 621 ls [.int r86]) rfl ?_
      refine lv_iload F.1 F.2.1 d_law_621 (lv_at hl 6 rfl) ?_
      refine lv_icmp_eq F.1 F.2.1 d_law_623 rfl (fun hb90 => ?_) (fun hb90 => ?_)
      · rw [if_pos hb90] at hf
        refine lv_iload F.1 F.2.1 d_law_628 (lv_at hl 6 rfl) ?_
        refine lv_if_ne F.1 F.2.1 d_law_630 rfl (fun hb89 => ?_) (fun hb89 => ?_)
        · rw [if_neg hb89] at hf
          refine lv_goto F.1 F.2.1 d_law_644 rfl ?_
          cases hf
          exact kk X n H locs ls F hP (lv_sub hl [1, 2, 3, 4, 5] rfl)
        · rw [if_pos hb89] at hf
          refine lv_aload_n F.1 F.2.1 d_law_633 rfl (lv_at hl 4 rfl) ?_
          refine lv_iconst (v := 0) F.1 F.2.1 d_law_634 (by decide) ?_
          obtain ⟨hc87, hf⟩ := chk_some hf
          refine h_lld F hP 44 (by decide) (by decide) Nat.zero_lt_one rfl rfl hc87 d_law_635 ?_
          refine lv_lload F.1 F.2.1 d_law_636 (lv_at hl 0 rfl) ?_
          refine g_lc_eq F d_law_638 d_law_639 rfl (fun hb88 => ?_) (fun hb88 => ?_)
          · rw [if_pos hb88] at hf
            refine lv_goto F.1 F.2.1 d_law_644 rfl ?_
            cases hf
            exact kk X n H locs ls F hP (lv_sub hl [1, 2, 3, 4, 5] rfl)
          · rw [if_neg hb88] at hf
            refine lv_iconst (v := 0) F.1 F.2.1 d_law_642 (by decide) ?_
            cases hf
      · rw [if_neg hb90] at hf
        refine lv_iconst (v := 0) F.1 F.2.1 d_law_626 (by decide) ?_
        cases hf
    refine lv_if_eq F.1 F.2.1 d_law_604 rfl (fun hb80 => ?_) (fun hb80 => ?_)
    · rw [if_pos hb80] at hj79
      refine lv_iconst (v := 0) F.1 F.2.1 d_law_611 (by decide) ?_
      subst hj79
      exact KJ78 _ _ _ (lv_sub hl [1, 2, 3, 4, 5, 0] rfl) hP
    · rw [if_neg hb80] at hj79
      refine lv_iconst (v := 1) F.1 F.2.1 d_law_607 (by decide) ?_
      refine lv_goto F.1 F.2.1 d_law_608 rfl ?_
      subst hj79
      exact KJ78 _ _ _ (lv_sub hl [1, 2, 3, 4, 5, 0] rfl) hP
  refine lv_if_eq F.1 F.2.1 d_law_555 rfl (fun hb73 => ?_) (fun hb73 => ?_)
  · rw [if_pos hb73] at hj72
    refine lv_iconst (v := 0) F.1 F.2.1 d_law_562 (by decide) ?_
    subst hj72
    exact KJ71 _ _ _ (lv_sub hl [0, 1, 2, 3, 4] rfl) hP
  · rw [if_neg hb73] at hj72
    refine lv_iconst (v := 1) F.1 F.2.1 d_law_558 (by decide) ?_
    refine lv_goto F.1 F.2.1 d_law_559 rfl ?_
    subst hj72
    exact KJ71 _ _ _ (lv_sub hl [0, 1, 2, 3, 4] rfl) hP
noncomputable def g_law_6 (a1 a2 a3 a4 : Int32) (σ : Sg) : Option Sg :=
  bn2 (f_Lw_value a1 ((a2.toInt64 <<< ((32 : Int32).toInt64 &&& 63)) ||| (a3.toInt64 &&& 4294967295)) a4 σ) (fun (r93 : Int32) (σ91 : Sg) => bn2 (f_Md_value a1 ((a2.toInt64 <<< ((32 : Int32).toInt64 &&& 63)) ||| (a3.toInt64 &&& 4294967295)) a4 σ91) (fun (r96 : Int64) (σ94 : Sg) => bn2 (f_Md_thrown σ94) (fun (r99 : Int32) (σ97 : Sg) => (if r99 = r93 then (if r93 = 0 then (chk (vp_in 0 1) ((if (gj σ97 44 0 ((0 : Int32).toNatClampNeg)) = r96 then (some σ97) else none))) else (some σ97)) else none))))
set_option maxHeartbeats 4000000 in
set_option maxRecDepth 100000 in
theorem s_law_6 {p : Program} {l : Launch} {e : Env} {s : State} {m : MethodId} {args : Array Value} {below : List Frame} {meth : Method} {c : Code} {Q : State → Prop} {b L : Nat} {xs : Nat → Int32} {cells slots n : Nat} {X : GX} {ls : Array Slot} {H : Heap} {locs : List Loc} {σ σ' : Sg} {iv a1 a2 a3 a4 : Int32} (hfl : l.flags = flags0) (F : Fx X p s m c code 8 args "TableMachineLaw") (hP : SL X n σ s.heap H locs) (hl : lv_has ls 8 [(0, .ref b), (1, .ref (xL X 0 0)), (2, .ref (xL X 9 0)), (3, .ref (xL X 44 0)), (4, .int iv)]) (hX : va_X b L xs s s.heap) (hbl : b < s.heap.size) (hin1 : vp_in (iv + 1) L) (hin2 : vp_in (iv + 2) L) (hin3 : vp_in (iv + 3) L) (hin4 : vp_in (iv + 4) L) (hx1 : xs (iv + 1).toNatClampNeg = a1) (hx2 : xs (iv + 2).toNatClampNeg = a2) (hx3 : xs (iv + 3).toNatClampNeg = a3) (hx4 : xs (iv + 4).toNatClampNeg = a4) (hcs : cells + 5 ≤ 601024 ∧ slots + 728 ≤ 7293034) (hf : g_law_6 a1 a2 a3 a4 σ = some σ')
    (kk : ∀ (X : GX) (n : Nat) (H : Heap) (locs : List Loc) (ls : Array Slot), Fx X p s m c code 8 args "TableMachineLaw" → SL X n σ' s.heap H locs → lv_has ls 8 [(0, .ref b), (1, .ref (xL X 0 0)), (2, .ref (xL X 9 0)), (3, .ref (xL X 44 0)), (4, .int iv)] → W p l e room_1 s m args below meth c H locs (cells + 5) (slots + 728) Q (F0 m 1462 ls [])) : W p l e room_1 s m args below meth c H locs cells slots Q (F0 m 647 ls []) := by
  unfold g_law_6 at hf
  refine lv_aload_n F.1 F.2.1 d_law_647 rfl (lv_at hl 1 rfl) ?_
  refine lv_aload_n F.1 F.2.1 d_law_648 rfl (lv_at hl 0 rfl) ?_
  refine lv_iload F.1 F.2.1 d_law_649 (lv_at hl 4 rfl) ?_
  refine lv_iconst (v := 1) F.1 F.2.1 d_law_651 (by decide) ?_
  refine lv_iadd F.1 F.2.1 d_law_652 ?_
  refine h_scr F hP hX hbl hin1 hx1 d_law_653 ?_
  refine lv_aload_n F.1 F.2.1 d_law_654 rfl (lv_at hl 0 rfl) ?_
  refine lv_iload F.1 F.2.1 d_law_655 (lv_at hl 4 rfl) ?_
  refine lv_iconst (v := 2) F.1 F.2.1 d_law_657 (by decide) ?_
  refine lv_iadd F.1 F.2.1 d_law_658 ?_
  refine h_scr F hP hX hbl hin2 hx2 d_law_659 ?_
  refine lv_i2l F.1 F.2.1 d_law_660 rfl ?_
  refine lv_bipush (v := 32) F.1 F.2.1 d_law_661 (by decide) ?_
  refine lv_lshl F.1 F.2.1 d_law_663 rfl ?_
  refine lv_aload_n F.1 F.2.1 d_law_664 rfl (lv_at hl 0 rfl) ?_
  refine lv_iload F.1 F.2.1 d_law_665 (lv_at hl 4 rfl) ?_
  refine lv_iconst (v := 3) F.1 F.2.1 d_law_667 (by decide) ?_
  refine lv_iadd F.1 F.2.1 d_law_668 ?_
  refine h_scr F hP hX hbl hin3 hx3 d_law_669 ?_
  refine lv_i2l F.1 F.2.1 d_law_670 rfl ?_
  refine lv_ldc2 F.1 F.2.1 F.2.2.2.1 (F.2.2.2.2.1 _ w_1159) d_law_671 ?_
  refine lv_land F.1 F.2.1 d_law_674 ?_
  refine lv_lor F.1 F.2.1 d_law_675 ?_
  refine lv_aload_n F.1 F.2.1 d_law_676 rfl (lv_at hl 0 rfl) ?_
  refine lv_iload F.1 F.2.1 d_law_677 (lv_at hl 4 rfl) ?_
  refine lv_iconst (v := 4) F.1 F.2.1 d_law_679 (by decide) ?_
  refine lv_iadd F.1 F.2.1 d_law_680 ?_
  refine h_scr F hP hX hbl hin4 hx4 d_law_681 ?_
  refine lv_aload_n F.1 F.2.1 d_law_682 rfl (lv_at hl 3 rfl) ?_
  obtain ⟨r93, σ91, hk92, hf⟩ := bn2_some hf
  refine h_callH hP (h_runH (As := [.ref (xL X 0 0), .int a1, .long ((a2.toInt64 <<< ((32 : Int32).toInt64 &&& 63)) ||| (a3.toInt64 &&& 4294967295)), .int a4, .ref (xL X 44 0)]) (rest := []) F hP (c_Lw_value l X n hfl hk92) ⟨by decide, by decide, q_Lw_value⟩ wc_Lw_value w_0 w_611 w_612 ⟨rfl, rfl⟩ ⟨by decide, by decide⟩ hl.1 (Nat.le_of_ble_eq_true rfl) ⟨by show _ ≤ 601024; omega, by show _ ≤ 7293034; omega⟩ d_law_683 rfl) (fun H locs hP => ?_)
  refine W.eq (g2 := F0 m 686 ls [.int r93]) rfl ?_
  refine lv_istore F.1 F.2.1 d_law_686 hl (by decide) rfl (fun ls hl => ?_)
  have hl : lv_has ls 8 [(5, .int r93), (0, .ref b), (1, .ref (xL X 0 0)), (2, .ref (xL X 9 0)), (3, .ref (xL X 44 0)), (4, .int iv)] := hl
  refine lv_aload_n F.1 F.2.1 d_law_688 rfl (lv_at hl 3 rfl) ?_
  refine lv_aload_n F.1 F.2.1 d_law_689 rfl (lv_at hl 1 rfl) ?_
  refine lv_iload F.1 F.2.1 d_law_690 (lv_at hl 5 rfl) ?_
  refine lv_iconst (v := 1) F.1 F.2.1 d_law_692 (by decide) ?_
  refine lv_iadd F.1 F.2.1 d_law_693 ?_
  refine h_scr F hP hX hbl hin1 hx1 d_law_694 ?_
  refine lv_aload_n F.1 F.2.1 d_law_695 rfl (lv_at hl 1 rfl) ?_
  refine lv_iload F.1 F.2.1 d_law_696 (lv_at hl 5 rfl) ?_
  refine lv_iconst (v := 2) F.1 F.2.1 d_law_698 (by decide) ?_
  refine lv_iadd F.1 F.2.1 d_law_699 ?_
  refine h_scr F hP hX hbl hin2 hx2 d_law_700 ?_
  refine lv_i2l F.1 F.2.1 d_law_701 rfl ?_
  refine lv_bipush (v := 32) F.1 F.2.1 d_law_702 (by decide) ?_
  refine lv_lshl F.1 F.2.1 d_law_704 rfl ?_
  refine lv_aload_n F.1 F.2.1 d_law_705 rfl (lv_at hl 1 rfl) ?_
  refine lv_iload F.1 F.2.1 d_law_706 (lv_at hl 5 rfl) ?_
  refine lv_iconst (v := 3) F.1 F.2.1 d_law_708 (by decide) ?_
  refine lv_iadd F.1 F.2.1 d_law_709 ?_
  refine h_scr F hP hX hbl hin3 hx3 d_law_710 ?_
  refine lv_i2l F.1 F.2.1 d_law_711 rfl ?_
  refine lv_ldc2 F.1 F.2.1 F.2.2.2.1 (F.2.2.2.2.1 _ w_1159) d_law_712 ?_
  refine lv_land F.1 F.2.1 d_law_715 ?_
  refine lv_lor F.1 F.2.1 d_law_716 ?_
  refine lv_aload_n F.1 F.2.1 d_law_717 rfl (lv_at hl 1 rfl) ?_
  refine lv_iload F.1 F.2.1 d_law_718 (lv_at hl 5 rfl) ?_
  refine lv_iconst (v := 4) F.1 F.2.1 d_law_720 (by decide) ?_
  refine lv_iadd F.1 F.2.1 d_law_721 ?_
  refine h_scr F hP hX hbl hin4 hx4 d_law_722 ?_
  obtain ⟨r96, σ94, hk95, hf⟩ := bn2_some hf
  refine h_callV (As := [.int a1, .long ((a2.toInt64 <<< ((32 : Int32).toInt64 &&& 63)) ||| (a3.toInt64 &&& 4294967295)), .int a4]) (rest := []) F hP 9 0 (by decide) Nat.zero_lt_one (c_Md_value l X n hk95) rfl q_Md_value w_1023 w_11 w_1020 w_1021 w_1022 ⟨rfl, rfl⟩ ⟨by decide, by decide⟩ hl.1 (Nat.le_of_ble_eq_true rfl) ⟨by show _ ≤ 601024; omega, by show _ ≤ 7293034; omega⟩ d_law_723 rfl (fun H locs hP => ?_)
  refine W.eq (g2 := F0 m 726 ls [.long r96]) rfl ?_
  refine lv_lstore F.1 F.2.1 d_law_726 hl (by decide) rfl (fun ls hl => ?_)
  have hl : lv_has ls 8 [(6, .long r96), (5, .int r93), (0, .ref b), (1, .ref (xL X 0 0)), (2, .ref (xL X 9 0)), (3, .ref (xL X 44 0)), (4, .int iv)] := hl
  refine lv_aload_n F.1 F.2.1 d_law_728 rfl (lv_at hl 4 rfl) ?_
  obtain ⟨r99, σ97, hk98, hf⟩ := bn2_some hf
  refine h_callV (As := []) (rest := []) F hP 9 0 (by decide) Nat.zero_lt_one (c_Md_thrown l X n hk98) rfl q_Md_thrown w_975 w_11 w_972 w_973 w_974 ⟨rfl, rfl⟩ ⟨by decide, by decide⟩ hl.1 (Nat.le_of_ble_eq_true rfl) ⟨by show _ ≤ 601024; omega, by show _ ≤ 7293034; omega⟩ d_law_729 rfl (fun H locs hP => ?_)
  refine W.eq (g2 := F0 m 732 ls [.int r99]) rfl ?_
  refine lv_iload F.1 F.2.1 d_law_732 (lv_at hl 1 rfl) ?_
  refine lv_icmp_eq F.1 F.2.1 d_law_734 rfl (fun hb103 => ?_) (fun hb103 => ?_)
  · rw [if_pos hb103] at hf
    refine lv_iload F.1 F.2.1 d_law_739 (lv_at hl 1 rfl) ?_
    refine lv_if_ne F.1 F.2.1 d_law_741 rfl (fun hb102 => ?_) (fun hb102 => ?_)
    · rw [if_neg hb102] at hf
      refine lv_goto F.1 F.2.1 d_law_755 rfl ?_
      cases hf
      exact kk X n H locs ls F hP (lv_sub hl [2, 3, 4, 5, 6] rfl)
    · rw [if_pos hb102] at hf
      refine lv_aload_n F.1 F.2.1 d_law_744 rfl (lv_at hl 5 rfl) ?_
      refine lv_iconst (v := 0) F.1 F.2.1 d_law_745 (by decide) ?_
      obtain ⟨hc100, hf⟩ := chk_some hf
      refine h_lld F hP 44 (by decide) (by decide) Nat.zero_lt_one rfl rfl hc100 d_law_746 ?_
      refine lv_lload F.1 F.2.1 d_law_747 (lv_at hl 0 rfl) ?_
      refine g_lc_eq F d_law_749 d_law_750 rfl (fun hb101 => ?_) (fun hb101 => ?_)
      · rw [if_pos hb101] at hf
        refine lv_goto F.1 F.2.1 d_law_755 rfl ?_
        cases hf
        exact kk X n H locs ls F hP (lv_sub hl [2, 3, 4, 5, 6] rfl)
      · rw [if_neg hb101] at hf
        refine lv_iconst (v := 0) F.1 F.2.1 d_law_753 (by decide) ?_
        cases hf
  · rw [if_neg hb103] at hf
    refine lv_iconst (v := 0) F.1 F.2.1 d_law_737 (by decide) ?_
    cases hf
noncomputable def g_law_7 (a1 a2 a3 a4 : Int32) (σ : Sg) : Option Sg :=
  bn2 (f_Lw_isNull a1 ((a2.toInt64 <<< ((32 : Int32).toInt64 &&& 63)) ||| (a3.toInt64 &&& 4294967295)) a4 σ) (fun (r106 : Int32) (σ104 : Sg) => bn2 (f_Md_isNull a1 ((a2.toInt64 <<< ((32 : Int32).toInt64 &&& 63)) ||| (a3.toInt64 &&& 4294967295)) a4 σ104) (fun (r109 : Int32) (σ107 : Sg) => bn2 (f_Md_thrown σ107) (fun (r112 : Int32) (σ110 : Sg) => (if r112 = r106 then (if r106 = 0 then (chk (vp_in 0 1) (lt_ ((if r109 = 0 then 0 else 1) : Int64) (fun (x114 : Int64) => (if (gj σ110 44 0 ((0 : Int32).toNatClampNeg)) = x114 then (some σ110) else none)))) else (some σ110)) else none))))
set_option maxHeartbeats 4000000 in
set_option maxRecDepth 100000 in
theorem s_law_7 {p : Program} {l : Launch} {e : Env} {s : State} {m : MethodId} {args : Array Value} {below : List Frame} {meth : Method} {c : Code} {Q : State → Prop} {b L : Nat} {xs : Nat → Int32} {cells slots n : Nat} {X : GX} {ls : Array Slot} {H : Heap} {locs : List Loc} {σ σ' : Sg} {iv a1 a2 a3 a4 : Int32} (hfl : l.flags = flags0) (F : Fx X p s m c code 8 args "TableMachineLaw") (hP : SL X n σ s.heap H locs) (hl : lv_has ls 8 [(0, .ref b), (1, .ref (xL X 0 0)), (2, .ref (xL X 9 0)), (3, .ref (xL X 44 0)), (4, .int iv)]) (hX : va_X b L xs s s.heap) (hbl : b < s.heap.size) (hin1 : vp_in (iv + 1) L) (hin2 : vp_in (iv + 2) L) (hin3 : vp_in (iv + 3) L) (hin4 : vp_in (iv + 4) L) (hx1 : xs (iv + 1).toNatClampNeg = a1) (hx2 : xs (iv + 2).toNatClampNeg = a2) (hx3 : xs (iv + 3).toNatClampNeg = a3) (hx4 : xs (iv + 4).toNatClampNeg = a4) (hcs : cells + 5 ≤ 601024 ∧ slots + 728 ≤ 7293034) (hf : g_law_7 a1 a2 a3 a4 σ = some σ')
    (kk : ∀ (X : GX) (n : Nat) (H : Heap) (locs : List Loc) (ls : Array Slot), Fx X p s m c code 8 args "TableMachineLaw" → SL X n σ' s.heap H locs → lv_has ls 8 [(0, .ref b), (1, .ref (xL X 0 0)), (2, .ref (xL X 9 0)), (3, .ref (xL X 44 0)), (4, .int iv)] → W p l e room_1 s m args below meth c H locs (cells + 5) (slots + 728) Q (F0 m 1462 ls [])) : W p l e room_1 s m args below meth c H locs cells slots Q (F0 m 758 ls []) := by
  unfold g_law_7 at hf
  refine lv_aload_n F.1 F.2.1 d_law_758 rfl (lv_at hl 1 rfl) ?_
  refine lv_aload_n F.1 F.2.1 d_law_759 rfl (lv_at hl 0 rfl) ?_
  refine lv_iload F.1 F.2.1 d_law_760 (lv_at hl 4 rfl) ?_
  refine lv_iconst (v := 1) F.1 F.2.1 d_law_762 (by decide) ?_
  refine lv_iadd F.1 F.2.1 d_law_763 ?_
  refine h_scr F hP hX hbl hin1 hx1 d_law_764 ?_
  refine lv_aload_n F.1 F.2.1 d_law_765 rfl (lv_at hl 0 rfl) ?_
  refine lv_iload F.1 F.2.1 d_law_766 (lv_at hl 4 rfl) ?_
  refine lv_iconst (v := 2) F.1 F.2.1 d_law_768 (by decide) ?_
  refine lv_iadd F.1 F.2.1 d_law_769 ?_
  refine h_scr F hP hX hbl hin2 hx2 d_law_770 ?_
  refine lv_i2l F.1 F.2.1 d_law_771 rfl ?_
  refine lv_bipush (v := 32) F.1 F.2.1 d_law_772 (by decide) ?_
  refine lv_lshl F.1 F.2.1 d_law_774 rfl ?_
  refine lv_aload_n F.1 F.2.1 d_law_775 rfl (lv_at hl 0 rfl) ?_
  refine lv_iload F.1 F.2.1 d_law_776 (lv_at hl 4 rfl) ?_
  refine lv_iconst (v := 3) F.1 F.2.1 d_law_778 (by decide) ?_
  refine lv_iadd F.1 F.2.1 d_law_779 ?_
  refine h_scr F hP hX hbl hin3 hx3 d_law_780 ?_
  refine lv_i2l F.1 F.2.1 d_law_781 rfl ?_
  refine lv_ldc2 F.1 F.2.1 F.2.2.2.1 (F.2.2.2.2.1 _ w_1159) d_law_782 ?_
  refine lv_land F.1 F.2.1 d_law_785 ?_
  refine lv_lor F.1 F.2.1 d_law_786 ?_
  refine lv_aload_n F.1 F.2.1 d_law_787 rfl (lv_at hl 0 rfl) ?_
  refine lv_iload F.1 F.2.1 d_law_788 (lv_at hl 4 rfl) ?_
  refine lv_iconst (v := 4) F.1 F.2.1 d_law_790 (by decide) ?_
  refine lv_iadd F.1 F.2.1 d_law_791 ?_
  refine h_scr F hP hX hbl hin4 hx4 d_law_792 ?_
  refine lv_aload_n F.1 F.2.1 d_law_793 rfl (lv_at hl 3 rfl) ?_
  obtain ⟨r106, σ104, hk105, hf⟩ := bn2_some hf
  refine h_callH hP (h_runH (As := [.ref (xL X 0 0), .int a1, .long ((a2.toInt64 <<< ((32 : Int32).toInt64 &&& 63)) ||| (a3.toInt64 &&& 4294967295)), .int a4, .ref (xL X 44 0)]) (rest := []) F hP (c_Lw_isNull l X n hfl hk105) ⟨by decide, by decide, q_Lw_isNull⟩ wc_Lw_isNull w_0 w_634 w_635 ⟨rfl, rfl⟩ ⟨by decide, by decide⟩ hl.1 (Nat.le_of_ble_eq_true rfl) ⟨by show _ ≤ 601024; omega, by show _ ≤ 7293034; omega⟩ d_law_794 rfl) (fun H locs hP => ?_)
  refine W.eq (g2 := F0 m 797 ls [.int r106]) rfl ?_
  refine lv_istore F.1 F.2.1 d_law_797 hl (by decide) rfl (fun ls hl => ?_)
  have hl : lv_has ls 8 [(5, .int r106), (0, .ref b), (1, .ref (xL X 0 0)), (2, .ref (xL X 9 0)), (3, .ref (xL X 44 0)), (4, .int iv)] := hl
  refine lv_aload_n F.1 F.2.1 d_law_799 rfl (lv_at hl 3 rfl) ?_
  refine lv_aload_n F.1 F.2.1 d_law_800 rfl (lv_at hl 1 rfl) ?_
  refine lv_iload F.1 F.2.1 d_law_801 (lv_at hl 5 rfl) ?_
  refine lv_iconst (v := 1) F.1 F.2.1 d_law_803 (by decide) ?_
  refine lv_iadd F.1 F.2.1 d_law_804 ?_
  refine h_scr F hP hX hbl hin1 hx1 d_law_805 ?_
  refine lv_aload_n F.1 F.2.1 d_law_806 rfl (lv_at hl 1 rfl) ?_
  refine lv_iload F.1 F.2.1 d_law_807 (lv_at hl 5 rfl) ?_
  refine lv_iconst (v := 2) F.1 F.2.1 d_law_809 (by decide) ?_
  refine lv_iadd F.1 F.2.1 d_law_810 ?_
  refine h_scr F hP hX hbl hin2 hx2 d_law_811 ?_
  refine lv_i2l F.1 F.2.1 d_law_812 rfl ?_
  refine lv_bipush (v := 32) F.1 F.2.1 d_law_813 (by decide) ?_
  refine lv_lshl F.1 F.2.1 d_law_815 rfl ?_
  refine lv_aload_n F.1 F.2.1 d_law_816 rfl (lv_at hl 1 rfl) ?_
  refine lv_iload F.1 F.2.1 d_law_817 (lv_at hl 5 rfl) ?_
  refine lv_iconst (v := 3) F.1 F.2.1 d_law_819 (by decide) ?_
  refine lv_iadd F.1 F.2.1 d_law_820 ?_
  refine h_scr F hP hX hbl hin3 hx3 d_law_821 ?_
  refine lv_i2l F.1 F.2.1 d_law_822 rfl ?_
  refine lv_ldc2 F.1 F.2.1 F.2.2.2.1 (F.2.2.2.2.1 _ w_1159) d_law_823 ?_
  refine lv_land F.1 F.2.1 d_law_826 ?_
  refine lv_lor F.1 F.2.1 d_law_827 ?_
  refine lv_aload_n F.1 F.2.1 d_law_828 rfl (lv_at hl 1 rfl) ?_
  refine lv_iload F.1 F.2.1 d_law_829 (lv_at hl 5 rfl) ?_
  refine lv_iconst (v := 4) F.1 F.2.1 d_law_831 (by decide) ?_
  refine lv_iadd F.1 F.2.1 d_law_832 ?_
  refine h_scr F hP hX hbl hin4 hx4 d_law_833 ?_
  obtain ⟨r109, σ107, hk108, hf⟩ := bn2_some hf
  refine h_callV (As := [.int a1, .long ((a2.toInt64 <<< ((32 : Int32).toInt64 &&& 63)) ||| (a3.toInt64 &&& 4294967295)), .int a4]) (rest := []) F hP 9 0 (by decide) Nat.zero_lt_one (c_Md_isNull l X n hk108) rfl q_Md_isNull w_1031 w_11 w_1028 w_1029 w_1030 ⟨rfl, rfl⟩ ⟨by decide, by decide⟩ hl.1 (Nat.le_of_ble_eq_true rfl) ⟨by show _ ≤ 601024; omega, by show _ ≤ 7293034; omega⟩ d_law_834 rfl (fun H locs hP => ?_)
  refine W.eq (g2 := F0 m 837 ls [.int r109]) rfl ?_
  refine lv_istore F.1 F.2.1 d_law_837 hl (by decide) rfl (fun ls hl => ?_)
  have hl : lv_has ls 8 [(6, .int r109), (5, .int r106), (0, .ref b), (1, .ref (xL X 0 0)), (2, .ref (xL X 9 0)), (3, .ref (xL X 44 0)), (4, .int iv)] := hl
  refine lv_aload_n F.1 F.2.1 d_law_839 rfl (lv_at hl 4 rfl) ?_
  obtain ⟨r112, σ110, hk111, hf⟩ := bn2_some hf
  refine h_callV (As := []) (rest := []) F hP 9 0 (by decide) Nat.zero_lt_one (c_Md_thrown l X n hk111) rfl q_Md_thrown w_975 w_11 w_972 w_973 w_974 ⟨rfl, rfl⟩ ⟨by decide, by decide⟩ hl.1 (Nat.le_of_ble_eq_true rfl) ⟨by show _ ≤ 601024; omega, by show _ ≤ 7293034; omega⟩ d_law_840 rfl (fun H locs hP => ?_)
  refine W.eq (g2 := F0 m 843 ls [.int r112]) rfl ?_
  refine lv_iload F.1 F.2.1 d_law_843 (lv_at hl 1 rfl) ?_
  refine lv_icmp_eq F.1 F.2.1 d_law_845 rfl (fun hb120 => ?_) (fun hb120 => ?_)
  · rw [if_pos hb120] at hf
    refine lv_iload F.1 F.2.1 d_law_850 (lv_at hl 1 rfl) ?_
    refine lv_if_ne F.1 F.2.1 d_law_852 rfl (fun hb119 => ?_) (fun hb119 => ?_)
    · rw [if_neg hb119] at hf
      refine lv_goto F.1 F.2.1 d_law_874 rfl ?_
      cases hf
      exact kk X n H locs ls F hP (lv_sub hl [2, 3, 4, 5, 6] rfl)
    · rw [if_pos hb119] at hf
      refine lv_aload_n F.1 F.2.1 d_law_855 rfl (lv_at hl 5 rfl) ?_
      refine lv_iconst (v := 0) F.1 F.2.1 d_law_856 (by decide) ?_
      obtain ⟨hc113, hf⟩ := chk_some hf
      refine h_lld F hP 44 (by decide) (by decide) Nat.zero_lt_one rfl rfl hc113 d_law_857 ?_
      refine lv_iload F.1 F.2.1 d_law_858 (lv_at hl 0 rfl) ?_
      obtain ⟨x114, hj116, hf⟩ := lt_some2 hf
      have KJ115 : ∀ (ls : Array Slot) (H : Heap) (locs : List Loc), lv_has ls 8 [(0, .ref b), (1, .ref (xL X 0 0)), (2, .ref (xL X 9 0)), (3, .ref (xL X 44 0)), (4, .int iv)] → SL X n σ110 s.heap H locs → W p l e room_1 s m args below meth c H locs (cells + 5) (slots + 728) Q (F0 m 868 ls [.long x114, .long (gj σ110 44 0 ((0 : Int32).toNatClampNeg))]) := by
        intro ls H locs hl hP
        refine g_lc_eq F d_law_868 d_law_869 rfl (fun hb118 => ?_) (fun hb118 => ?_)
        · rw [if_pos hb118] at hf
          refine lv_goto F.1 F.2.1 d_law_874 rfl ?_
          cases hf
          exact kk X n H locs ls F hP (lv_sub hl [0, 1, 2, 3, 4] rfl)
        · rw [if_neg hb118] at hf
          refine lv_iconst (v := 0) F.1 F.2.1 d_law_872 (by decide) ?_
          cases hf
      refine lv_if_eq F.1 F.2.1 d_law_860 rfl (fun hb117 => ?_) (fun hb117 => ?_)
      · rw [if_pos hb117] at hj116
        refine lv_lconst (v := 0) F.1 F.2.1 d_law_867 (by decide) ?_
        subst hj116
        exact KJ115 _ _ _ (lv_sub hl [2, 3, 4, 5, 6] rfl) hP
      · rw [if_neg hb117] at hj116
        refine lv_lconst (v := 1) F.1 F.2.1 d_law_863 (by decide) ?_
        refine lv_goto F.1 F.2.1 d_law_864 rfl ?_
        subst hj116
        exact KJ115 _ _ _ (lv_sub hl [2, 3, 4, 5, 6] rfl) hP
  · rw [if_neg hb120] at hf
    refine lv_iconst (v := 0) F.1 F.2.1 d_law_848 (by decide) ?_
    cases hf
noncomputable def g_law_8 (a1 a2 a3 a4 : Int32) (σ : Sg) : Option Sg :=
  bn2 (f_Lw_add a1 a2 a3 a4 σ) (fun (r123 : Int32) (σ121 : Sg) => bn2 (f_Md_add a1 a2 a3 a4 σ121) (fun (r126 : Int32) (σ124 : Sg) => bn2 (f_Md_thrown σ124) (fun (r129 : Int32) (σ127 : Sg) => (if r129 = r123 then (if r123 = 0 then (chk (vp_in 0 1) ((if (gj σ127 44 0 ((0 : Int32).toNatClampNeg)) = r126.toInt64 then (some σ127) else none))) else (some σ127)) else none))))
set_option maxHeartbeats 4000000 in
set_option maxRecDepth 100000 in
theorem s_law_8 {p : Program} {l : Launch} {e : Env} {s : State} {m : MethodId} {args : Array Value} {below : List Frame} {meth : Method} {c : Code} {Q : State → Prop} {b L : Nat} {xs : Nat → Int32} {cells slots n : Nat} {X : GX} {ls : Array Slot} {H : Heap} {locs : List Loc} {σ σ' : Sg} {iv a1 a2 a3 a4 : Int32} (hfl : l.flags = flags0) (F : Fx X p s m c code 8 args "TableMachineLaw") (hP : SL X n σ s.heap H locs) (hl : lv_has ls 8 [(0, .ref b), (1, .ref (xL X 0 0)), (2, .ref (xL X 9 0)), (3, .ref (xL X 44 0)), (4, .int iv)]) (hX : va_X b L xs s s.heap) (hbl : b < s.heap.size) (hin1 : vp_in (iv + 1) L) (hin2 : vp_in (iv + 2) L) (hin3 : vp_in (iv + 3) L) (hin4 : vp_in (iv + 4) L) (hx1 : xs (iv + 1).toNatClampNeg = a1) (hx2 : xs (iv + 2).toNatClampNeg = a2) (hx3 : xs (iv + 3).toNatClampNeg = a3) (hx4 : xs (iv + 4).toNatClampNeg = a4) (hcs : cells + 5 ≤ 601024 ∧ slots + 728 ≤ 7293034) (hf : g_law_8 a1 a2 a3 a4 σ = some σ')
    (kk : ∀ (X : GX) (n : Nat) (H : Heap) (locs : List Loc) (ls : Array Slot), Fx X p s m c code 8 args "TableMachineLaw" → SL X n σ' s.heap H locs → lv_has ls 8 [(0, .ref b), (1, .ref (xL X 0 0)), (2, .ref (xL X 9 0)), (3, .ref (xL X 44 0)), (4, .int iv)] → W p l e room_1 s m args below meth c H locs (cells + 5) (slots + 728) Q (F0 m 1462 ls [])) : W p l e room_1 s m args below meth c H locs cells slots Q (F0 m 877 ls []) := by
  unfold g_law_8 at hf
  refine lv_aload_n F.1 F.2.1 d_law_877 rfl (lv_at hl 1 rfl) ?_
  refine lv_aload_n F.1 F.2.1 d_law_878 rfl (lv_at hl 0 rfl) ?_
  refine lv_iload F.1 F.2.1 d_law_879 (lv_at hl 4 rfl) ?_
  refine lv_iconst (v := 1) F.1 F.2.1 d_law_881 (by decide) ?_
  refine lv_iadd F.1 F.2.1 d_law_882 ?_
  refine h_scr F hP hX hbl hin1 hx1 d_law_883 ?_
  refine lv_aload_n F.1 F.2.1 d_law_884 rfl (lv_at hl 0 rfl) ?_
  refine lv_iload F.1 F.2.1 d_law_885 (lv_at hl 4 rfl) ?_
  refine lv_iconst (v := 2) F.1 F.2.1 d_law_887 (by decide) ?_
  refine lv_iadd F.1 F.2.1 d_law_888 ?_
  refine h_scr F hP hX hbl hin2 hx2 d_law_889 ?_
  refine lv_aload_n F.1 F.2.1 d_law_890 rfl (lv_at hl 0 rfl) ?_
  refine lv_iload F.1 F.2.1 d_law_891 (lv_at hl 4 rfl) ?_
  refine lv_iconst (v := 3) F.1 F.2.1 d_law_893 (by decide) ?_
  refine lv_iadd F.1 F.2.1 d_law_894 ?_
  refine h_scr F hP hX hbl hin3 hx3 d_law_895 ?_
  refine lv_aload_n F.1 F.2.1 d_law_896 rfl (lv_at hl 0 rfl) ?_
  refine lv_iload F.1 F.2.1 d_law_897 (lv_at hl 4 rfl) ?_
  refine lv_iconst (v := 4) F.1 F.2.1 d_law_899 (by decide) ?_
  refine lv_iadd F.1 F.2.1 d_law_900 ?_
  refine h_scr F hP hX hbl hin4 hx4 d_law_901 ?_
  refine lv_aload_n F.1 F.2.1 d_law_902 rfl (lv_at hl 3 rfl) ?_
  obtain ⟨r123, σ121, hk122, hf⟩ := bn2_some hf
  refine h_callH hP (h_runH (As := [.ref (xL X 0 0), .int a1, .int a2, .int a3, .int a4, .ref (xL X 44 0)]) (rest := []) F hP (c_Lw_add l X n hfl hk122) ⟨by decide, by decide, q_Lw_add⟩ wc_Lw_add w_0 w_641 w_642 ⟨rfl, rfl⟩ ⟨by decide, by decide⟩ hl.1 (Nat.le_of_ble_eq_true rfl) ⟨by show _ ≤ 601024; omega, by show _ ≤ 7293034; omega⟩ d_law_903 rfl) (fun H locs hP => ?_)
  refine W.eq (g2 := F0 m 906 ls [.int r123]) rfl ?_
  refine lv_istore F.1 F.2.1 d_law_906 hl (by decide) rfl (fun ls hl => ?_)
  have hl : lv_has ls 8 [(5, .int r123), (0, .ref b), (1, .ref (xL X 0 0)), (2, .ref (xL X 9 0)), (3, .ref (xL X 44 0)), (4, .int iv)] := hl
  refine lv_aload_n F.1 F.2.1 d_law_908 rfl (lv_at hl 3 rfl) ?_
  refine lv_aload_n F.1 F.2.1 d_law_909 rfl (lv_at hl 1 rfl) ?_
  refine lv_iload F.1 F.2.1 d_law_910 (lv_at hl 5 rfl) ?_
  refine lv_iconst (v := 1) F.1 F.2.1 d_law_912 (by decide) ?_
  refine lv_iadd F.1 F.2.1 d_law_913 ?_
  refine h_scr F hP hX hbl hin1 hx1 d_law_914 ?_
  refine lv_aload_n F.1 F.2.1 d_law_915 rfl (lv_at hl 1 rfl) ?_
  refine lv_iload F.1 F.2.1 d_law_916 (lv_at hl 5 rfl) ?_
  refine lv_iconst (v := 2) F.1 F.2.1 d_law_918 (by decide) ?_
  refine lv_iadd F.1 F.2.1 d_law_919 ?_
  refine h_scr F hP hX hbl hin2 hx2 d_law_920 ?_
  refine lv_aload_n F.1 F.2.1 d_law_921 rfl (lv_at hl 1 rfl) ?_
  refine lv_iload F.1 F.2.1 d_law_922 (lv_at hl 5 rfl) ?_
  refine lv_iconst (v := 3) F.1 F.2.1 d_law_924 (by decide) ?_
  refine lv_iadd F.1 F.2.1 d_law_925 ?_
  refine h_scr F hP hX hbl hin3 hx3 d_law_926 ?_
  refine lv_aload_n F.1 F.2.1 d_law_927 rfl (lv_at hl 1 rfl) ?_
  refine lv_iload F.1 F.2.1 d_law_928 (lv_at hl 5 rfl) ?_
  refine lv_iconst (v := 4) F.1 F.2.1 d_law_930 (by decide) ?_
  refine lv_iadd F.1 F.2.1 d_law_931 ?_
  refine h_scr F hP hX hbl hin4 hx4 d_law_932 ?_
  obtain ⟨r126, σ124, hk125, hf⟩ := bn2_some hf
  refine h_callV (As := [.int a1, .int a2, .int a3, .int a4]) (rest := []) F hP 9 0 (by decide) Nat.zero_lt_one (c_Md_add l X n hk125) rfl q_Md_add w_1035 w_11 w_1032 w_1033 w_1034 ⟨rfl, rfl⟩ ⟨by decide, by decide⟩ hl.1 (Nat.le_of_ble_eq_true rfl) ⟨by show _ ≤ 601024; omega, by show _ ≤ 7293034; omega⟩ d_law_933 rfl (fun H locs hP => ?_)
  refine W.eq (g2 := F0 m 936 ls [.int r126]) rfl ?_
  refine lv_istore F.1 F.2.1 d_law_936 hl (by decide) rfl (fun ls hl => ?_)
  have hl : lv_has ls 8 [(6, .int r126), (5, .int r123), (0, .ref b), (1, .ref (xL X 0 0)), (2, .ref (xL X 9 0)), (3, .ref (xL X 44 0)), (4, .int iv)] := hl
  refine lv_aload_n F.1 F.2.1 d_law_938 rfl (lv_at hl 4 rfl) ?_
  obtain ⟨r129, σ127, hk128, hf⟩ := bn2_some hf
  refine h_callV (As := []) (rest := []) F hP 9 0 (by decide) Nat.zero_lt_one (c_Md_thrown l X n hk128) rfl q_Md_thrown w_975 w_11 w_972 w_973 w_974 ⟨rfl, rfl⟩ ⟨by decide, by decide⟩ hl.1 (Nat.le_of_ble_eq_true rfl) ⟨by show _ ≤ 601024; omega, by show _ ≤ 7293034; omega⟩ d_law_939 rfl (fun H locs hP => ?_)
  refine W.eq (g2 := F0 m 942 ls [.int r129]) rfl ?_
  refine lv_iload F.1 F.2.1 d_law_942 (lv_at hl 1 rfl) ?_
  refine lv_icmp_eq F.1 F.2.1 d_law_944 rfl (fun hb133 => ?_) (fun hb133 => ?_)
  · rw [if_pos hb133] at hf
    refine lv_iload F.1 F.2.1 d_law_949 (lv_at hl 1 rfl) ?_
    refine lv_if_ne F.1 F.2.1 d_law_951 rfl (fun hb132 => ?_) (fun hb132 => ?_)
    · rw [if_neg hb132] at hf
      refine lv_goto F.1 F.2.1 d_law_966 rfl ?_
      cases hf
      exact kk X n H locs ls F hP (lv_sub hl [2, 3, 4, 5, 6] rfl)
    · rw [if_pos hb132] at hf
      refine lv_aload_n F.1 F.2.1 d_law_954 rfl (lv_at hl 5 rfl) ?_
      refine lv_iconst (v := 0) F.1 F.2.1 d_law_955 (by decide) ?_
      obtain ⟨hc130, hf⟩ := chk_some hf
      refine h_lld F hP 44 (by decide) (by decide) Nat.zero_lt_one rfl rfl hc130 d_law_956 ?_
      refine lv_iload F.1 F.2.1 d_law_957 (lv_at hl 0 rfl) ?_
      refine lv_i2l F.1 F.2.1 d_law_959 rfl ?_
      refine g_lc_eq F d_law_960 d_law_961 rfl (fun hb131 => ?_) (fun hb131 => ?_)
      · rw [if_pos hb131] at hf
        refine lv_goto F.1 F.2.1 d_law_966 rfl ?_
        cases hf
        exact kk X n H locs ls F hP (lv_sub hl [2, 3, 4, 5, 6] rfl)
      · rw [if_neg hb131] at hf
        refine lv_iconst (v := 0) F.1 F.2.1 d_law_964 (by decide) ?_
        cases hf
  · rw [if_neg hb133] at hf
    refine lv_iconst (v := 0) F.1 F.2.1 d_law_947 (by decide) ?_
    cases hf
noncomputable def g_law_9 (a1 a2 a3 a4 : Int32) (σ : Sg) : Option Sg :=
  (f_TM_wipe σ).bind (fun σ134 => (f_Md_wipe σ134).bind (fun σ136 => some σ136))
set_option maxHeartbeats 4000000 in
set_option maxRecDepth 100000 in
theorem s_law_9 {p : Program} {l : Launch} {e : Env} {s : State} {m : MethodId} {args : Array Value} {below : List Frame} {meth : Method} {c : Code} {Q : State → Prop} {b L : Nat} {xs : Nat → Int32} {cells slots n : Nat} {X : GX} {ls : Array Slot} {H : Heap} {locs : List Loc} {σ σ' : Sg} {iv a1 a2 a3 a4 : Int32} (hfl : l.flags = flags0) (F : Fx X p s m c code 8 args "TableMachineLaw") (hP : SL X n σ s.heap H locs) (hl : lv_has ls 8 [(0, .ref b), (1, .ref (xL X 0 0)), (2, .ref (xL X 9 0)), (3, .ref (xL X 44 0)), (4, .int iv)]) (hX : va_X b L xs s s.heap) (hbl : b < s.heap.size) (hin1 : vp_in (iv + 1) L) (hin2 : vp_in (iv + 2) L) (hin3 : vp_in (iv + 3) L) (hin4 : vp_in (iv + 4) L) (hx1 : xs (iv + 1).toNatClampNeg = a1) (hx2 : xs (iv + 2).toNatClampNeg = a2) (hx3 : xs (iv + 3).toNatClampNeg = a3) (hx4 : xs (iv + 4).toNatClampNeg = a4) (hcs : cells + 5 ≤ 601024 ∧ slots + 728 ≤ 7293034) (hf : g_law_9 a1 a2 a3 a4 σ = some σ')
    (kk : ∀ (X : GX) (n : Nat) (H : Heap) (locs : List Loc) (ls : Array Slot), Fx X p s m c code 8 args "TableMachineLaw" → SL X n σ' s.heap H locs → lv_has ls 8 [(0, .ref b), (1, .ref (xL X 0 0)), (2, .ref (xL X 9 0)), (3, .ref (xL X 44 0)), (4, .int iv)] → W p l e room_1 s m args below meth c H locs (cells + 5) (slots + 728) Q (F0 m 1462 ls [])) : W p l e room_1 s m args below meth c H locs cells slots Q (F0 m 969 ls []) := by
  unfold g_law_9 at hf
  refine lv_aload_n F.1 F.2.1 d_law_969 rfl (lv_at hl 1 rfl) ?_
  obtain ⟨σ134, hk135, hf⟩ := bnd_some hf
  refine h_callV (As := []) (rest := []) F hP 0 0 (by decide) Nat.zero_lt_one (c_TM_wipe l X n hk135) rfl q_TM_wipe w_266 w_1 w_263 w_264 w_265 ⟨rfl, rfl⟩ ⟨by decide, by decide⟩ hl.1 (Nat.le_of_ble_eq_true rfl) ⟨by show _ ≤ 601024; omega, by show _ ≤ 7293034; omega⟩ d_law_970 rfl (fun H locs hP => ?_)
  refine W.eq (g2 := F0 m 973 ls []) rfl ?_
  refine lv_aload_n F.1 F.2.1 d_law_973 rfl (lv_at hl 2 rfl) ?_
  obtain ⟨σ136, hk137, hf⟩ := bnd_some hf
  refine h_callV (As := []) (rest := []) F hP 9 0 (by decide) Nat.zero_lt_one (c_Md_wipe l X n hk137) rfl q_Md_wipe w_1052 w_11 w_1049 w_1050 w_1051 ⟨rfl, rfl⟩ ⟨by decide, by decide⟩ hl.1 (Nat.le_of_ble_eq_true rfl) ⟨by show _ ≤ 601024; omega, by show _ ≤ 7293034; omega⟩ d_law_974 rfl (fun H locs hP => ?_)
  refine W.eq (g2 := F0 m 977 ls []) rfl ?_
  refine lv_goto F.1 F.2.1 d_law_977 rfl ?_
  cases hf
  exact W.widen (by omega) (by omega) (kk X n H locs ls F hP (lv_sub hl [0, 1, 2, 3, 4] rfl))
noncomputable def g_law_10 (a1 a2 a3 a4 : Int32) (σ : Sg) : Option Sg :=
  bn2 (f_Lw_code a1 a2 σ) (fun (r140 : Int32) (σ138 : Sg) => bn2 (f_Md_code a1 a2 σ138) (fun (r143 : Int32) (σ141 : Sg) => bn2 (f_Md_thrown σ141) (fun (r146 : Int32) (σ144 : Sg) => (if r146 = r140 then (if r140 = 0 then (chk (vp_in 0 1) ((if (gj σ144 44 0 ((0 : Int32).toNatClampNeg)) = r143.toInt64 then (some σ144) else none))) else (some σ144)) else none))))
set_option maxHeartbeats 4000000 in
set_option maxRecDepth 100000 in
theorem s_law_10 {p : Program} {l : Launch} {e : Env} {s : State} {m : MethodId} {args : Array Value} {below : List Frame} {meth : Method} {c : Code} {Q : State → Prop} {b L : Nat} {xs : Nat → Int32} {cells slots n : Nat} {X : GX} {ls : Array Slot} {H : Heap} {locs : List Loc} {σ σ' : Sg} {iv a1 a2 a3 a4 : Int32} (hfl : l.flags = flags0) (F : Fx X p s m c code 8 args "TableMachineLaw") (hP : SL X n σ s.heap H locs) (hl : lv_has ls 8 [(0, .ref b), (1, .ref (xL X 0 0)), (2, .ref (xL X 9 0)), (3, .ref (xL X 44 0)), (4, .int iv)]) (hX : va_X b L xs s s.heap) (hbl : b < s.heap.size) (hin1 : vp_in (iv + 1) L) (hin2 : vp_in (iv + 2) L) (hin3 : vp_in (iv + 3) L) (hin4 : vp_in (iv + 4) L) (hx1 : xs (iv + 1).toNatClampNeg = a1) (hx2 : xs (iv + 2).toNatClampNeg = a2) (hx3 : xs (iv + 3).toNatClampNeg = a3) (hx4 : xs (iv + 4).toNatClampNeg = a4) (hcs : cells + 5 ≤ 601024 ∧ slots + 728 ≤ 7293034) (hf : g_law_10 a1 a2 a3 a4 σ = some σ')
    (kk : ∀ (X : GX) (n : Nat) (H : Heap) (locs : List Loc) (ls : Array Slot), Fx X p s m c code 8 args "TableMachineLaw" → SL X n σ' s.heap H locs → lv_has ls 8 [(0, .ref b), (1, .ref (xL X 0 0)), (2, .ref (xL X 9 0)), (3, .ref (xL X 44 0)), (4, .int iv)] → W p l e room_1 s m args below meth c H locs (cells + 5) (slots + 728) Q (F0 m 1462 ls [])) : W p l e room_1 s m args below meth c H locs cells slots Q (F0 m 980 ls []) := by
  unfold g_law_10 at hf
  refine lv_aload_n F.1 F.2.1 d_law_980 rfl (lv_at hl 1 rfl) ?_
  refine lv_aload_n F.1 F.2.1 d_law_981 rfl (lv_at hl 0 rfl) ?_
  refine lv_iload F.1 F.2.1 d_law_982 (lv_at hl 4 rfl) ?_
  refine lv_iconst (v := 1) F.1 F.2.1 d_law_984 (by decide) ?_
  refine lv_iadd F.1 F.2.1 d_law_985 ?_
  refine h_scr F hP hX hbl hin1 hx1 d_law_986 ?_
  refine lv_aload_n F.1 F.2.1 d_law_987 rfl (lv_at hl 0 rfl) ?_
  refine lv_iload F.1 F.2.1 d_law_988 (lv_at hl 4 rfl) ?_
  refine lv_iconst (v := 2) F.1 F.2.1 d_law_990 (by decide) ?_
  refine lv_iadd F.1 F.2.1 d_law_991 ?_
  refine h_scr F hP hX hbl hin2 hx2 d_law_992 ?_
  refine lv_aload_n F.1 F.2.1 d_law_993 rfl (lv_at hl 3 rfl) ?_
  obtain ⟨r140, σ138, hk139, hf⟩ := bn2_some hf
  refine h_callH hP (h_runH (As := [.ref (xL X 0 0), .int a1, .int a2, .ref (xL X 44 0)]) (rest := []) F hP (c_Lw_code l X n hfl hk139) ⟨by decide, by decide, q_Lw_code⟩ wc_Lw_code w_0 w_697 w_698 ⟨rfl, rfl⟩ ⟨by decide, by decide⟩ hl.1 (Nat.le_of_ble_eq_true rfl) ⟨by show _ ≤ 601024; omega, by show _ ≤ 7293034; omega⟩ d_law_994 rfl) (fun H locs hP => ?_)
  refine W.eq (g2 := F0 m 997 ls [.int r140]) rfl ?_
  refine lv_istore F.1 F.2.1 d_law_997 hl (by decide) rfl (fun ls hl => ?_)
  have hl : lv_has ls 8 [(5, .int r140), (0, .ref b), (1, .ref (xL X 0 0)), (2, .ref (xL X 9 0)), (3, .ref (xL X 44 0)), (4, .int iv)] := hl
  refine lv_aload_n F.1 F.2.1 d_law_999 rfl (lv_at hl 3 rfl) ?_
  refine lv_aload_n F.1 F.2.1 d_law_1000 rfl (lv_at hl 1 rfl) ?_
  refine lv_iload F.1 F.2.1 d_law_1001 (lv_at hl 5 rfl) ?_
  refine lv_iconst (v := 1) F.1 F.2.1 d_law_1003 (by decide) ?_
  refine lv_iadd F.1 F.2.1 d_law_1004 ?_
  refine h_scr F hP hX hbl hin1 hx1 d_law_1005 ?_
  refine lv_aload_n F.1 F.2.1 d_law_1006 rfl (lv_at hl 1 rfl) ?_
  refine lv_iload F.1 F.2.1 d_law_1007 (lv_at hl 5 rfl) ?_
  refine lv_iconst (v := 2) F.1 F.2.1 d_law_1009 (by decide) ?_
  refine lv_iadd F.1 F.2.1 d_law_1010 ?_
  refine h_scr F hP hX hbl hin2 hx2 d_law_1011 ?_
  obtain ⟨r143, σ141, hk142, hf⟩ := bn2_some hf
  refine h_callV (As := [.int a1, .int a2]) (rest := []) F hP 9 0 (by decide) Nat.zero_lt_one (c_Md_code l X n hk142) rfl q_Md_code w_1056 w_11 w_1053 w_1054 w_1055 ⟨rfl, rfl⟩ ⟨by decide, by decide⟩ hl.1 (Nat.le_of_ble_eq_true rfl) ⟨by show _ ≤ 601024; omega, by show _ ≤ 7293034; omega⟩ d_law_1012 rfl (fun H locs hP => ?_)
  refine W.eq (g2 := F0 m 1015 ls [.int r143]) rfl ?_
  refine lv_istore F.1 F.2.1 d_law_1015 hl (by decide) rfl (fun ls hl => ?_)
  have hl : lv_has ls 8 [(6, .int r143), (5, .int r140), (0, .ref b), (1, .ref (xL X 0 0)), (2, .ref (xL X 9 0)), (3, .ref (xL X 44 0)), (4, .int iv)] := hl
  refine lv_aload_n F.1 F.2.1 d_law_1017 rfl (lv_at hl 4 rfl) ?_
  obtain ⟨r146, σ144, hk145, hf⟩ := bn2_some hf
  refine h_callV (As := []) (rest := []) F hP 9 0 (by decide) Nat.zero_lt_one (c_Md_thrown l X n hk145) rfl q_Md_thrown w_975 w_11 w_972 w_973 w_974 ⟨rfl, rfl⟩ ⟨by decide, by decide⟩ hl.1 (Nat.le_of_ble_eq_true rfl) ⟨by show _ ≤ 601024; omega, by show _ ≤ 7293034; omega⟩ d_law_1018 rfl (fun H locs hP => ?_)
  refine W.eq (g2 := F0 m 1021 ls [.int r146]) rfl ?_
  refine lv_iload F.1 F.2.1 d_law_1021 (lv_at hl 1 rfl) ?_
  refine lv_icmp_eq F.1 F.2.1 d_law_1023 rfl (fun hb150 => ?_) (fun hb150 => ?_)
  · rw [if_pos hb150] at hf
    refine lv_iload F.1 F.2.1 d_law_1028 (lv_at hl 1 rfl) ?_
    refine lv_if_ne F.1 F.2.1 d_law_1030 rfl (fun hb149 => ?_) (fun hb149 => ?_)
    · rw [if_neg hb149] at hf
      refine lv_goto F.1 F.2.1 d_law_1045 rfl ?_
      cases hf
      exact kk X n H locs ls F hP (lv_sub hl [2, 3, 4, 5, 6] rfl)
    · rw [if_pos hb149] at hf
      refine lv_aload_n F.1 F.2.1 d_law_1033 rfl (lv_at hl 5 rfl) ?_
      refine lv_iconst (v := 0) F.1 F.2.1 d_law_1034 (by decide) ?_
      obtain ⟨hc147, hf⟩ := chk_some hf
      refine h_lld F hP 44 (by decide) (by decide) Nat.zero_lt_one rfl rfl hc147 d_law_1035 ?_
      refine lv_iload F.1 F.2.1 d_law_1036 (lv_at hl 0 rfl) ?_
      refine lv_i2l F.1 F.2.1 d_law_1038 rfl ?_
      refine g_lc_eq F d_law_1039 d_law_1040 rfl (fun hb148 => ?_) (fun hb148 => ?_)
      · rw [if_pos hb148] at hf
        refine lv_goto F.1 F.2.1 d_law_1045 rfl ?_
        cases hf
        exact kk X n H locs ls F hP (lv_sub hl [2, 3, 4, 5, 6] rfl)
      · rw [if_neg hb148] at hf
        refine lv_iconst (v := 0) F.1 F.2.1 d_law_1043 (by decide) ?_
        cases hf
  · rw [if_neg hb150] at hf
    refine lv_iconst (v := 0) F.1 F.2.1 d_law_1026 (by decide) ?_
    cases hf
noncomputable def g_law_11 (a1 a2 a3 a4 : Int32) (σ : Sg) : Option Sg :=
  bn2 (f_Lw_run a1 σ) (fun (r153 : Int32) (σ151 : Sg) => bn2 (f_Md_run a1 σ151) (fun (r156 : Int32) (σ154 : Sg) => bn2 (f_Md_thrown σ154) (fun (r159 : Int32) (σ157 : Sg) => (if r159 = r153 then (if r153 = 0 then (chk (vp_in 0 1) ((if (gj σ157 44 0 ((0 : Int32).toNatClampNeg)) = r156.toInt64 then (some σ157) else none))) else (some σ157)) else none))))
set_option maxHeartbeats 4000000 in
set_option maxRecDepth 100000 in
theorem s_law_11 {p : Program} {l : Launch} {e : Env} {s : State} {m : MethodId} {args : Array Value} {below : List Frame} {meth : Method} {c : Code} {Q : State → Prop} {b L : Nat} {xs : Nat → Int32} {cells slots n : Nat} {X : GX} {ls : Array Slot} {H : Heap} {locs : List Loc} {σ σ' : Sg} {iv a1 a2 a3 a4 : Int32} (hfl : l.flags = flags0) (F : Fx X p s m c code 8 args "TableMachineLaw") (hP : SL X n σ s.heap H locs) (hl : lv_has ls 8 [(0, .ref b), (1, .ref (xL X 0 0)), (2, .ref (xL X 9 0)), (3, .ref (xL X 44 0)), (4, .int iv)]) (hX : va_X b L xs s s.heap) (hbl : b < s.heap.size) (hin1 : vp_in (iv + 1) L) (hin2 : vp_in (iv + 2) L) (hin3 : vp_in (iv + 3) L) (hin4 : vp_in (iv + 4) L) (hx1 : xs (iv + 1).toNatClampNeg = a1) (hx2 : xs (iv + 2).toNatClampNeg = a2) (hx3 : xs (iv + 3).toNatClampNeg = a3) (hx4 : xs (iv + 4).toNatClampNeg = a4) (hcs : cells + 5 ≤ 601024 ∧ slots + 728 ≤ 7293034) (hf : g_law_11 a1 a2 a3 a4 σ = some σ')
    (kk : ∀ (X : GX) (n : Nat) (H : Heap) (locs : List Loc) (ls : Array Slot), Fx X p s m c code 8 args "TableMachineLaw" → SL X n σ' s.heap H locs → lv_has ls 8 [(0, .ref b), (1, .ref (xL X 0 0)), (2, .ref (xL X 9 0)), (3, .ref (xL X 44 0)), (4, .int iv)] → W p l e room_1 s m args below meth c H locs (cells + 5) (slots + 728) Q (F0 m 1462 ls [])) : W p l e room_1 s m args below meth c H locs cells slots Q (F0 m 1048 ls []) := by
  unfold g_law_11 at hf
  refine lv_aload_n F.1 F.2.1 d_law_1048 rfl (lv_at hl 1 rfl) ?_
  refine lv_aload_n F.1 F.2.1 d_law_1049 rfl (lv_at hl 0 rfl) ?_
  refine lv_iload F.1 F.2.1 d_law_1050 (lv_at hl 4 rfl) ?_
  refine lv_iconst (v := 1) F.1 F.2.1 d_law_1052 (by decide) ?_
  refine lv_iadd F.1 F.2.1 d_law_1053 ?_
  refine h_scr F hP hX hbl hin1 hx1 d_law_1054 ?_
  refine lv_aload_n F.1 F.2.1 d_law_1055 rfl (lv_at hl 3 rfl) ?_
  obtain ⟨r153, σ151, hk152, hf⟩ := bn2_some hf
  refine h_callH hP (h_runH (As := [.ref (xL X 0 0), .int a1, .ref (xL X 44 0)]) (rest := []) F hP (c_Lw_run l X n hfl hk152) ⟨by decide, by decide, q_Lw_run⟩ wc_Lw_run w_0 w_729 w_730 ⟨rfl, rfl⟩ ⟨by decide, by decide⟩ hl.1 (Nat.le_of_ble_eq_true rfl) ⟨by show _ ≤ 601024; omega, by show _ ≤ 7293034; omega⟩ d_law_1056 rfl) (fun H locs hP => ?_)
  refine W.eq (g2 := F0 m 1059 ls [.int r153]) rfl ?_
  refine lv_istore F.1 F.2.1 d_law_1059 hl (by decide) rfl (fun ls hl => ?_)
  have hl : lv_has ls 8 [(5, .int r153), (0, .ref b), (1, .ref (xL X 0 0)), (2, .ref (xL X 9 0)), (3, .ref (xL X 44 0)), (4, .int iv)] := hl
  refine lv_aload_n F.1 F.2.1 d_law_1061 rfl (lv_at hl 3 rfl) ?_
  refine lv_aload_n F.1 F.2.1 d_law_1062 rfl (lv_at hl 1 rfl) ?_
  refine lv_iload F.1 F.2.1 d_law_1063 (lv_at hl 5 rfl) ?_
  refine lv_iconst (v := 1) F.1 F.2.1 d_law_1065 (by decide) ?_
  refine lv_iadd F.1 F.2.1 d_law_1066 ?_
  refine h_scr F hP hX hbl hin1 hx1 d_law_1067 ?_
  obtain ⟨r156, σ154, hk155, hf⟩ := bn2_some hf
  refine h_callV (As := [.int a1]) (rest := []) F hP 9 0 (by decide) Nat.zero_lt_one (c_Md_run l X n hk155) rfl q_Md_run w_1060 w_11 w_1057 w_1058 w_1059 ⟨rfl, rfl⟩ ⟨by decide, by decide⟩ hl.1 (Nat.le_of_ble_eq_true rfl) ⟨by show _ ≤ 601024; omega, by show _ ≤ 7293034; omega⟩ d_law_1068 rfl (fun H locs hP => ?_)
  refine W.eq (g2 := F0 m 1071 ls [.int r156]) rfl ?_
  refine lv_istore F.1 F.2.1 d_law_1071 hl (by decide) rfl (fun ls hl => ?_)
  have hl : lv_has ls 8 [(6, .int r156), (5, .int r153), (0, .ref b), (1, .ref (xL X 0 0)), (2, .ref (xL X 9 0)), (3, .ref (xL X 44 0)), (4, .int iv)] := hl
  refine lv_aload_n F.1 F.2.1 d_law_1073 rfl (lv_at hl 4 rfl) ?_
  obtain ⟨r159, σ157, hk158, hf⟩ := bn2_some hf
  refine h_callV (As := []) (rest := []) F hP 9 0 (by decide) Nat.zero_lt_one (c_Md_thrown l X n hk158) rfl q_Md_thrown w_975 w_11 w_972 w_973 w_974 ⟨rfl, rfl⟩ ⟨by decide, by decide⟩ hl.1 (Nat.le_of_ble_eq_true rfl) ⟨by show _ ≤ 601024; omega, by show _ ≤ 7293034; omega⟩ d_law_1074 rfl (fun H locs hP => ?_)
  refine W.eq (g2 := F0 m 1077 ls [.int r159]) rfl ?_
  refine lv_iload F.1 F.2.1 d_law_1077 (lv_at hl 1 rfl) ?_
  refine lv_icmp_eq F.1 F.2.1 d_law_1079 rfl (fun hb163 => ?_) (fun hb163 => ?_)
  · rw [if_pos hb163] at hf
    refine lv_iload F.1 F.2.1 d_law_1084 (lv_at hl 1 rfl) ?_
    refine lv_if_ne F.1 F.2.1 d_law_1086 rfl (fun hb162 => ?_) (fun hb162 => ?_)
    · rw [if_neg hb162] at hf
      refine lv_goto F.1 F.2.1 d_law_1101 rfl ?_
      cases hf
      exact kk X n H locs ls F hP (lv_sub hl [2, 3, 4, 5, 6] rfl)
    · rw [if_pos hb162] at hf
      refine lv_aload_n F.1 F.2.1 d_law_1089 rfl (lv_at hl 5 rfl) ?_
      refine lv_iconst (v := 0) F.1 F.2.1 d_law_1090 (by decide) ?_
      obtain ⟨hc160, hf⟩ := chk_some hf
      refine h_lld F hP 44 (by decide) (by decide) Nat.zero_lt_one rfl rfl hc160 d_law_1091 ?_
      refine lv_iload F.1 F.2.1 d_law_1092 (lv_at hl 0 rfl) ?_
      refine lv_i2l F.1 F.2.1 d_law_1094 rfl ?_
      refine g_lc_eq F d_law_1095 d_law_1096 rfl (fun hb161 => ?_) (fun hb161 => ?_)
      · rw [if_pos hb161] at hf
        refine lv_goto F.1 F.2.1 d_law_1101 rfl ?_
        cases hf
        exact kk X n H locs ls F hP (lv_sub hl [2, 3, 4, 5, 6] rfl)
      · rw [if_neg hb161] at hf
        refine lv_iconst (v := 0) F.1 F.2.1 d_law_1099 (by decide) ?_
        cases hf
  · rw [if_neg hb163] at hf
    refine lv_iconst (v := 0) F.1 F.2.1 d_law_1082 (by decide) ?_
    cases hf
noncomputable def g_law_12 (a1 a2 a3 a4 : Int32) (σ : Sg) : Option Sg :=
  bn2 (f_Lw_result a1 a2 σ) (fun (r166 : Int32) (σ164 : Sg) => bn2 (f_Md_result a1 a2 σ164) (fun (r169 : Int64) (σ167 : Sg) => bn2 (f_Md_thrown σ167) (fun (r172 : Int32) (σ170 : Sg) => (if r172 = r166 then (if r166 = 0 then (chk (vp_in 0 1) ((if (gj σ170 44 0 ((0 : Int32).toNatClampNeg)) = r169 then (some σ170) else none))) else (some σ170)) else none))))
set_option maxHeartbeats 4000000 in
set_option maxRecDepth 100000 in
theorem s_law_12 {p : Program} {l : Launch} {e : Env} {s : State} {m : MethodId} {args : Array Value} {below : List Frame} {meth : Method} {c : Code} {Q : State → Prop} {b L : Nat} {xs : Nat → Int32} {cells slots n : Nat} {X : GX} {ls : Array Slot} {H : Heap} {locs : List Loc} {σ σ' : Sg} {iv a1 a2 a3 a4 : Int32} (hfl : l.flags = flags0) (F : Fx X p s m c code 8 args "TableMachineLaw") (hP : SL X n σ s.heap H locs) (hl : lv_has ls 8 [(0, .ref b), (1, .ref (xL X 0 0)), (2, .ref (xL X 9 0)), (3, .ref (xL X 44 0)), (4, .int iv)]) (hX : va_X b L xs s s.heap) (hbl : b < s.heap.size) (hin1 : vp_in (iv + 1) L) (hin2 : vp_in (iv + 2) L) (hin3 : vp_in (iv + 3) L) (hin4 : vp_in (iv + 4) L) (hx1 : xs (iv + 1).toNatClampNeg = a1) (hx2 : xs (iv + 2).toNatClampNeg = a2) (hx3 : xs (iv + 3).toNatClampNeg = a3) (hx4 : xs (iv + 4).toNatClampNeg = a4) (hcs : cells + 5 ≤ 601024 ∧ slots + 728 ≤ 7293034) (hf : g_law_12 a1 a2 a3 a4 σ = some σ')
    (kk : ∀ (X : GX) (n : Nat) (H : Heap) (locs : List Loc) (ls : Array Slot), Fx X p s m c code 8 args "TableMachineLaw" → SL X n σ' s.heap H locs → lv_has ls 8 [(0, .ref b), (1, .ref (xL X 0 0)), (2, .ref (xL X 9 0)), (3, .ref (xL X 44 0)), (4, .int iv)] → W p l e room_1 s m args below meth c H locs (cells + 5) (slots + 728) Q (F0 m 1462 ls [])) : W p l e room_1 s m args below meth c H locs cells slots Q (F0 m 1104 ls []) := by
  unfold g_law_12 at hf
  refine lv_aload_n F.1 F.2.1 d_law_1104 rfl (lv_at hl 1 rfl) ?_
  refine lv_aload_n F.1 F.2.1 d_law_1105 rfl (lv_at hl 0 rfl) ?_
  refine lv_iload F.1 F.2.1 d_law_1106 (lv_at hl 4 rfl) ?_
  refine lv_iconst (v := 1) F.1 F.2.1 d_law_1108 (by decide) ?_
  refine lv_iadd F.1 F.2.1 d_law_1109 ?_
  refine h_scr F hP hX hbl hin1 hx1 d_law_1110 ?_
  refine lv_aload_n F.1 F.2.1 d_law_1111 rfl (lv_at hl 0 rfl) ?_
  refine lv_iload F.1 F.2.1 d_law_1112 (lv_at hl 4 rfl) ?_
  refine lv_iconst (v := 2) F.1 F.2.1 d_law_1114 (by decide) ?_
  refine lv_iadd F.1 F.2.1 d_law_1115 ?_
  refine h_scr F hP hX hbl hin2 hx2 d_law_1116 ?_
  refine lv_aload_n F.1 F.2.1 d_law_1117 rfl (lv_at hl 3 rfl) ?_
  obtain ⟨r166, σ164, hk165, hf⟩ := bn2_some hf
  refine h_callH hP (h_runH (As := [.ref (xL X 0 0), .int a1, .int a2, .ref (xL X 44 0)]) (rest := []) F hP (c_Lw_result l X n hfl hk165) ⟨by decide, by decide, q_Lw_result⟩ wc_Lw_result w_0 w_804 w_805 ⟨rfl, rfl⟩ ⟨by decide, by decide⟩ hl.1 (Nat.le_of_ble_eq_true rfl) ⟨by show _ ≤ 601024; omega, by show _ ≤ 7293034; omega⟩ d_law_1118 rfl) (fun H locs hP => ?_)
  refine W.eq (g2 := F0 m 1121 ls [.int r166]) rfl ?_
  refine lv_istore F.1 F.2.1 d_law_1121 hl (by decide) rfl (fun ls hl => ?_)
  have hl : lv_has ls 8 [(5, .int r166), (0, .ref b), (1, .ref (xL X 0 0)), (2, .ref (xL X 9 0)), (3, .ref (xL X 44 0)), (4, .int iv)] := hl
  refine lv_aload_n F.1 F.2.1 d_law_1123 rfl (lv_at hl 3 rfl) ?_
  refine lv_aload_n F.1 F.2.1 d_law_1124 rfl (lv_at hl 1 rfl) ?_
  refine lv_iload F.1 F.2.1 d_law_1125 (lv_at hl 5 rfl) ?_
  refine lv_iconst (v := 1) F.1 F.2.1 d_law_1127 (by decide) ?_
  refine lv_iadd F.1 F.2.1 d_law_1128 ?_
  refine h_scr F hP hX hbl hin1 hx1 d_law_1129 ?_
  refine lv_aload_n F.1 F.2.1 d_law_1130 rfl (lv_at hl 1 rfl) ?_
  refine lv_iload F.1 F.2.1 d_law_1131 (lv_at hl 5 rfl) ?_
  refine lv_iconst (v := 2) F.1 F.2.1 d_law_1133 (by decide) ?_
  refine lv_iadd F.1 F.2.1 d_law_1134 ?_
  refine h_scr F hP hX hbl hin2 hx2 d_law_1135 ?_
  obtain ⟨r169, σ167, hk168, hf⟩ := bn2_some hf
  refine h_callV (As := [.int a1, .int a2]) (rest := []) F hP 9 0 (by decide) Nat.zero_lt_one (c_Md_result l X n hk168) rfl q_Md_result w_1106 w_11 w_1103 w_1104 w_1105 ⟨rfl, rfl⟩ ⟨by decide, by decide⟩ hl.1 (Nat.le_of_ble_eq_true rfl) ⟨by show _ ≤ 601024; omega, by show _ ≤ 7293034; omega⟩ d_law_1136 rfl (fun H locs hP => ?_)
  refine W.eq (g2 := F0 m 1139 ls [.long r169]) rfl ?_
  refine lv_lstore F.1 F.2.1 d_law_1139 hl (by decide) rfl (fun ls hl => ?_)
  have hl : lv_has ls 8 [(6, .long r169), (5, .int r166), (0, .ref b), (1, .ref (xL X 0 0)), (2, .ref (xL X 9 0)), (3, .ref (xL X 44 0)), (4, .int iv)] := hl
  refine lv_aload_n F.1 F.2.1 d_law_1141 rfl (lv_at hl 4 rfl) ?_
  obtain ⟨r172, σ170, hk171, hf⟩ := bn2_some hf
  refine h_callV (As := []) (rest := []) F hP 9 0 (by decide) Nat.zero_lt_one (c_Md_thrown l X n hk171) rfl q_Md_thrown w_975 w_11 w_972 w_973 w_974 ⟨rfl, rfl⟩ ⟨by decide, by decide⟩ hl.1 (Nat.le_of_ble_eq_true rfl) ⟨by show _ ≤ 601024; omega, by show _ ≤ 7293034; omega⟩ d_law_1142 rfl (fun H locs hP => ?_)
  refine W.eq (g2 := F0 m 1145 ls [.int r172]) rfl ?_
  refine lv_iload F.1 F.2.1 d_law_1145 (lv_at hl 1 rfl) ?_
  refine lv_icmp_eq F.1 F.2.1 d_law_1147 rfl (fun hb176 => ?_) (fun hb176 => ?_)
  · rw [if_pos hb176] at hf
    refine lv_iload F.1 F.2.1 d_law_1152 (lv_at hl 1 rfl) ?_
    refine lv_if_ne F.1 F.2.1 d_law_1154 rfl (fun hb175 => ?_) (fun hb175 => ?_)
    · rw [if_neg hb175] at hf
      refine lv_goto F.1 F.2.1 d_law_1168 rfl ?_
      cases hf
      exact kk X n H locs ls F hP (lv_sub hl [2, 3, 4, 5, 6] rfl)
    · rw [if_pos hb175] at hf
      refine lv_aload_n F.1 F.2.1 d_law_1157 rfl (lv_at hl 5 rfl) ?_
      refine lv_iconst (v := 0) F.1 F.2.1 d_law_1158 (by decide) ?_
      obtain ⟨hc173, hf⟩ := chk_some hf
      refine h_lld F hP 44 (by decide) (by decide) Nat.zero_lt_one rfl rfl hc173 d_law_1159 ?_
      refine lv_lload F.1 F.2.1 d_law_1160 (lv_at hl 0 rfl) ?_
      refine g_lc_eq F d_law_1162 d_law_1163 rfl (fun hb174 => ?_) (fun hb174 => ?_)
      · rw [if_pos hb174] at hf
        refine lv_goto F.1 F.2.1 d_law_1168 rfl ?_
        cases hf
        exact kk X n H locs ls F hP (lv_sub hl [2, 3, 4, 5, 6] rfl)
      · rw [if_neg hb174] at hf
        refine lv_iconst (v := 0) F.1 F.2.1 d_law_1166 (by decide) ?_
        cases hf
  · rw [if_neg hb176] at hf
    refine lv_iconst (v := 0) F.1 F.2.1 d_law_1150 (by decide) ?_
    cases hf
noncomputable def g_law_13 (a1 a2 a3 a4 : Int32) (σ : Sg) : Option Sg :=
  bn2 (f_Lw_wasNull a1 a2 σ) (fun (r179 : Int32) (σ177 : Sg) => bn2 (f_Md_wasNull a1 a2 σ177) (fun (r182 : Int32) (σ180 : Sg) => bn2 (f_Md_thrown σ180) (fun (r185 : Int32) (σ183 : Sg) => (if r185 = r179 then (if r179 = 0 then (chk (vp_in 0 1) (lt_ ((if r182 = 0 then 0 else 1) : Int64) (fun (x187 : Int64) => (if (gj σ183 44 0 ((0 : Int32).toNatClampNeg)) = x187 then (some σ183) else none)))) else (some σ183)) else none))))
set_option maxHeartbeats 4000000 in
set_option maxRecDepth 100000 in
theorem s_law_13 {p : Program} {l : Launch} {e : Env} {s : State} {m : MethodId} {args : Array Value} {below : List Frame} {meth : Method} {c : Code} {Q : State → Prop} {b L : Nat} {xs : Nat → Int32} {cells slots n : Nat} {X : GX} {ls : Array Slot} {H : Heap} {locs : List Loc} {σ σ' : Sg} {iv a1 a2 a3 a4 : Int32} (hfl : l.flags = flags0) (F : Fx X p s m c code 8 args "TableMachineLaw") (hP : SL X n σ s.heap H locs) (hl : lv_has ls 8 [(0, .ref b), (1, .ref (xL X 0 0)), (2, .ref (xL X 9 0)), (3, .ref (xL X 44 0)), (4, .int iv)]) (hX : va_X b L xs s s.heap) (hbl : b < s.heap.size) (hin1 : vp_in (iv + 1) L) (hin2 : vp_in (iv + 2) L) (hin3 : vp_in (iv + 3) L) (hin4 : vp_in (iv + 4) L) (hx1 : xs (iv + 1).toNatClampNeg = a1) (hx2 : xs (iv + 2).toNatClampNeg = a2) (hx3 : xs (iv + 3).toNatClampNeg = a3) (hx4 : xs (iv + 4).toNatClampNeg = a4) (hcs : cells + 5 ≤ 601024 ∧ slots + 728 ≤ 7293034) (hf : g_law_13 a1 a2 a3 a4 σ = some σ')
    (kk : ∀ (X : GX) (n : Nat) (H : Heap) (locs : List Loc) (ls : Array Slot), Fx X p s m c code 8 args "TableMachineLaw" → SL X n σ' s.heap H locs → lv_has ls 8 [(0, .ref b), (1, .ref (xL X 0 0)), (2, .ref (xL X 9 0)), (3, .ref (xL X 44 0)), (4, .int iv)] → W p l e room_1 s m args below meth c H locs (cells + 5) (slots + 728) Q (F0 m 1462 ls [])) : W p l e room_1 s m args below meth c H locs cells slots Q (F0 m 1171 ls []) := by
  unfold g_law_13 at hf
  refine lv_aload_n F.1 F.2.1 d_law_1171 rfl (lv_at hl 1 rfl) ?_
  refine lv_aload_n F.1 F.2.1 d_law_1172 rfl (lv_at hl 0 rfl) ?_
  refine lv_iload F.1 F.2.1 d_law_1173 (lv_at hl 4 rfl) ?_
  refine lv_iconst (v := 1) F.1 F.2.1 d_law_1175 (by decide) ?_
  refine lv_iadd F.1 F.2.1 d_law_1176 ?_
  refine h_scr F hP hX hbl hin1 hx1 d_law_1177 ?_
  refine lv_aload_n F.1 F.2.1 d_law_1178 rfl (lv_at hl 0 rfl) ?_
  refine lv_iload F.1 F.2.1 d_law_1179 (lv_at hl 4 rfl) ?_
  refine lv_iconst (v := 2) F.1 F.2.1 d_law_1181 (by decide) ?_
  refine lv_iadd F.1 F.2.1 d_law_1182 ?_
  refine h_scr F hP hX hbl hin2 hx2 d_law_1183 ?_
  refine lv_aload_n F.1 F.2.1 d_law_1184 rfl (lv_at hl 3 rfl) ?_
  obtain ⟨r179, σ177, hk178, hf⟩ := bn2_some hf
  refine h_callH hP (h_runH (As := [.ref (xL X 0 0), .int a1, .int a2, .ref (xL X 44 0)]) (rest := []) F hP (c_Lw_wasNull l X n hfl hk178) ⟨by decide, by decide, q_Lw_wasNull⟩ wc_Lw_wasNull w_0 w_811 w_812 ⟨rfl, rfl⟩ ⟨by decide, by decide⟩ hl.1 (Nat.le_of_ble_eq_true rfl) ⟨by show _ ≤ 601024; omega, by show _ ≤ 7293034; omega⟩ d_law_1185 rfl) (fun H locs hP => ?_)
  refine W.eq (g2 := F0 m 1188 ls [.int r179]) rfl ?_
  refine lv_istore F.1 F.2.1 d_law_1188 hl (by decide) rfl (fun ls hl => ?_)
  have hl : lv_has ls 8 [(5, .int r179), (0, .ref b), (1, .ref (xL X 0 0)), (2, .ref (xL X 9 0)), (3, .ref (xL X 44 0)), (4, .int iv)] := hl
  refine lv_aload_n F.1 F.2.1 d_law_1190 rfl (lv_at hl 3 rfl) ?_
  refine lv_aload_n F.1 F.2.1 d_law_1191 rfl (lv_at hl 1 rfl) ?_
  refine lv_iload F.1 F.2.1 d_law_1192 (lv_at hl 5 rfl) ?_
  refine lv_iconst (v := 1) F.1 F.2.1 d_law_1194 (by decide) ?_
  refine lv_iadd F.1 F.2.1 d_law_1195 ?_
  refine h_scr F hP hX hbl hin1 hx1 d_law_1196 ?_
  refine lv_aload_n F.1 F.2.1 d_law_1197 rfl (lv_at hl 1 rfl) ?_
  refine lv_iload F.1 F.2.1 d_law_1198 (lv_at hl 5 rfl) ?_
  refine lv_iconst (v := 2) F.1 F.2.1 d_law_1200 (by decide) ?_
  refine lv_iadd F.1 F.2.1 d_law_1201 ?_
  refine h_scr F hP hX hbl hin2 hx2 d_law_1202 ?_
  obtain ⟨r182, σ180, hk181, hf⟩ := bn2_some hf
  refine h_callV (As := [.int a1, .int a2]) (rest := []) F hP 9 0 (by decide) Nat.zero_lt_one (c_Md_wasNull l X n hk181) rfl q_Md_wasNull w_1110 w_11 w_1107 w_1108 w_1109 ⟨rfl, rfl⟩ ⟨by decide, by decide⟩ hl.1 (Nat.le_of_ble_eq_true rfl) ⟨by show _ ≤ 601024; omega, by show _ ≤ 7293034; omega⟩ d_law_1203 rfl (fun H locs hP => ?_)
  refine W.eq (g2 := F0 m 1206 ls [.int r182]) rfl ?_
  refine lv_istore F.1 F.2.1 d_law_1206 hl (by decide) rfl (fun ls hl => ?_)
  have hl : lv_has ls 8 [(6, .int r182), (5, .int r179), (0, .ref b), (1, .ref (xL X 0 0)), (2, .ref (xL X 9 0)), (3, .ref (xL X 44 0)), (4, .int iv)] := hl
  refine lv_aload_n F.1 F.2.1 d_law_1208 rfl (lv_at hl 4 rfl) ?_
  obtain ⟨r185, σ183, hk184, hf⟩ := bn2_some hf
  refine h_callV (As := []) (rest := []) F hP 9 0 (by decide) Nat.zero_lt_one (c_Md_thrown l X n hk184) rfl q_Md_thrown w_975 w_11 w_972 w_973 w_974 ⟨rfl, rfl⟩ ⟨by decide, by decide⟩ hl.1 (Nat.le_of_ble_eq_true rfl) ⟨by show _ ≤ 601024; omega, by show _ ≤ 7293034; omega⟩ d_law_1209 rfl (fun H locs hP => ?_)
  refine W.eq (g2 := F0 m 1212 ls [.int r185]) rfl ?_
  refine lv_iload F.1 F.2.1 d_law_1212 (lv_at hl 1 rfl) ?_
  refine lv_icmp_eq F.1 F.2.1 d_law_1214 rfl (fun hb193 => ?_) (fun hb193 => ?_)
  · rw [if_pos hb193] at hf
    refine lv_iload F.1 F.2.1 d_law_1219 (lv_at hl 1 rfl) ?_
    refine lv_if_ne F.1 F.2.1 d_law_1221 rfl (fun hb192 => ?_) (fun hb192 => ?_)
    · rw [if_neg hb192] at hf
      refine lv_goto F.1 F.2.1 d_law_1243 rfl ?_
      cases hf
      exact kk X n H locs ls F hP (lv_sub hl [2, 3, 4, 5, 6] rfl)
    · rw [if_pos hb192] at hf
      refine lv_aload_n F.1 F.2.1 d_law_1224 rfl (lv_at hl 5 rfl) ?_
      refine lv_iconst (v := 0) F.1 F.2.1 d_law_1225 (by decide) ?_
      obtain ⟨hc186, hf⟩ := chk_some hf
      refine h_lld F hP 44 (by decide) (by decide) Nat.zero_lt_one rfl rfl hc186 d_law_1226 ?_
      refine lv_iload F.1 F.2.1 d_law_1227 (lv_at hl 0 rfl) ?_
      obtain ⟨x187, hj189, hf⟩ := lt_some2 hf
      have KJ188 : ∀ (ls : Array Slot) (H : Heap) (locs : List Loc), lv_has ls 8 [(0, .ref b), (1, .ref (xL X 0 0)), (2, .ref (xL X 9 0)), (3, .ref (xL X 44 0)), (4, .int iv)] → SL X n σ183 s.heap H locs → W p l e room_1 s m args below meth c H locs (cells + 5) (slots + 728) Q (F0 m 1237 ls [.long x187, .long (gj σ183 44 0 ((0 : Int32).toNatClampNeg))]) := by
        intro ls H locs hl hP
        refine g_lc_eq F d_law_1237 d_law_1238 rfl (fun hb191 => ?_) (fun hb191 => ?_)
        · rw [if_pos hb191] at hf
          refine lv_goto F.1 F.2.1 d_law_1243 rfl ?_
          cases hf
          exact kk X n H locs ls F hP (lv_sub hl [0, 1, 2, 3, 4] rfl)
        · rw [if_neg hb191] at hf
          refine lv_iconst (v := 0) F.1 F.2.1 d_law_1241 (by decide) ?_
          cases hf
      refine lv_if_eq F.1 F.2.1 d_law_1229 rfl (fun hb190 => ?_) (fun hb190 => ?_)
      · rw [if_pos hb190] at hj189
        refine lv_lconst (v := 0) F.1 F.2.1 d_law_1236 (by decide) ?_
        subst hj189
        exact KJ188 _ _ _ (lv_sub hl [2, 3, 4, 5, 6] rfl) hP
      · rw [if_neg hb190] at hj189
        refine lv_lconst (v := 1) F.1 F.2.1 d_law_1232 (by decide) ?_
        refine lv_goto F.1 F.2.1 d_law_1233 rfl ?_
        subst hj189
        exact KJ188 _ _ _ (lv_sub hl [2, 3, 4, 5, 6] rfl) hP
  · rw [if_neg hb193] at hf
    refine lv_iconst (v := 0) F.1 F.2.1 d_law_1217 (by decide) ?_
    cases hf
noncomputable def g_law_14 (a1 a2 a3 a4 : Int32) (σ : Sg) : Option Sg :=
  bn2 (f_TM_ask a1 a2 σ) (fun (r196 : Int32) (σ194 : Sg) => bn2 (f_Md_ask a1 a2 σ194) (fun (r199 : Int32) (σ197 : Sg) => (if r196 = r199 then (some σ197) else none)))
set_option maxHeartbeats 4000000 in
set_option maxRecDepth 100000 in
theorem s_law_14 {p : Program} {l : Launch} {e : Env} {s : State} {m : MethodId} {args : Array Value} {below : List Frame} {meth : Method} {c : Code} {Q : State → Prop} {b L : Nat} {xs : Nat → Int32} {cells slots n : Nat} {X : GX} {ls : Array Slot} {H : Heap} {locs : List Loc} {σ σ' : Sg} {iv a1 a2 a3 a4 : Int32} (hfl : l.flags = flags0) (F : Fx X p s m c code 8 args "TableMachineLaw") (hP : SL X n σ s.heap H locs) (hl : lv_has ls 8 [(0, .ref b), (1, .ref (xL X 0 0)), (2, .ref (xL X 9 0)), (3, .ref (xL X 44 0)), (4, .int iv)]) (hX : va_X b L xs s s.heap) (hbl : b < s.heap.size) (hin1 : vp_in (iv + 1) L) (hin2 : vp_in (iv + 2) L) (hin3 : vp_in (iv + 3) L) (hin4 : vp_in (iv + 4) L) (hx1 : xs (iv + 1).toNatClampNeg = a1) (hx2 : xs (iv + 2).toNatClampNeg = a2) (hx3 : xs (iv + 3).toNatClampNeg = a3) (hx4 : xs (iv + 4).toNatClampNeg = a4) (hcs : cells + 5 ≤ 601024 ∧ slots + 728 ≤ 7293034) (hf : g_law_14 a1 a2 a3 a4 σ = some σ')
    (kk : ∀ (X : GX) (n : Nat) (H : Heap) (locs : List Loc) (ls : Array Slot), Fx X p s m c code 8 args "TableMachineLaw" → SL X n σ' s.heap H locs → lv_has ls 8 [(0, .ref b), (1, .ref (xL X 0 0)), (2, .ref (xL X 9 0)), (3, .ref (xL X 44 0)), (4, .int iv)] → W p l e room_1 s m args below meth c H locs (cells + 5) (slots + 728) Q (F0 m 1462 ls [])) : W p l e room_1 s m args below meth c H locs cells slots Q (F0 m 1246 ls []) := by
  unfold g_law_14 at hf
  refine lv_aload_n F.1 F.2.1 d_law_1246 rfl (lv_at hl 1 rfl) ?_
  refine lv_aload_n F.1 F.2.1 d_law_1247 rfl (lv_at hl 0 rfl) ?_
  refine lv_iload F.1 F.2.1 d_law_1248 (lv_at hl 4 rfl) ?_
  refine lv_iconst (v := 1) F.1 F.2.1 d_law_1250 (by decide) ?_
  refine lv_iadd F.1 F.2.1 d_law_1251 ?_
  refine h_scr F hP hX hbl hin1 hx1 d_law_1252 ?_
  refine lv_aload_n F.1 F.2.1 d_law_1253 rfl (lv_at hl 0 rfl) ?_
  refine lv_iload F.1 F.2.1 d_law_1254 (lv_at hl 4 rfl) ?_
  refine lv_iconst (v := 2) F.1 F.2.1 d_law_1256 (by decide) ?_
  refine lv_iadd F.1 F.2.1 d_law_1257 ?_
  refine h_scr F hP hX hbl hin2 hx2 d_law_1258 ?_
  obtain ⟨r196, σ194, hk195, hf⟩ := bn2_some hf
  refine h_callV (As := [.int a1, .int a2]) (rest := []) F hP 0 0 (by decide) Nat.zero_lt_one (c_TM_ask l X n hk195) rfl q_TM_ask w_270 w_1 w_267 w_268 w_269 ⟨rfl, rfl⟩ ⟨by decide, by decide⟩ hl.1 (Nat.le_of_ble_eq_true rfl) ⟨by show _ ≤ 601024; omega, by show _ ≤ 7293034; omega⟩ d_law_1259 rfl (fun H locs hP => ?_)
  refine W.eq (g2 := F0 m 1262 ls [.int r196]) rfl ?_
  refine lv_aload_n F.1 F.2.1 d_law_1262 rfl (lv_at hl 2 rfl) ?_
  refine lv_aload_n F.1 F.2.1 d_law_1263 rfl (lv_at hl 0 rfl) ?_
  refine lv_iload F.1 F.2.1 d_law_1264 (lv_at hl 4 rfl) ?_
  refine lv_iconst (v := 1) F.1 F.2.1 d_law_1266 (by decide) ?_
  refine lv_iadd F.1 F.2.1 d_law_1267 ?_
  refine h_scr F hP hX hbl hin1 hx1 d_law_1268 ?_
  refine lv_aload_n F.1 F.2.1 d_law_1269 rfl (lv_at hl 0 rfl) ?_
  refine lv_iload F.1 F.2.1 d_law_1270 (lv_at hl 4 rfl) ?_
  refine lv_iconst (v := 2) F.1 F.2.1 d_law_1272 (by decide) ?_
  refine lv_iadd F.1 F.2.1 d_law_1273 ?_
  refine h_scr F hP hX hbl hin2 hx2 d_law_1274 ?_
  obtain ⟨r199, σ197, hk198, hf⟩ := bn2_some hf
  refine h_callV (As := [.int a1, .int a2]) (rest := [.int r196]) F hP 9 0 (by decide) Nat.zero_lt_one (c_Md_ask l X n hk198) rfl q_Md_ask w_1114 w_11 w_1111 w_1112 w_1113 ⟨rfl, rfl⟩ ⟨by decide, by decide⟩ hl.1 (Nat.le_of_ble_eq_true rfl) ⟨by show _ ≤ 601024; omega, by show _ ≤ 7293034; omega⟩ d_law_1275 rfl (fun H locs hP => ?_)
  refine W.eq (g2 := F0 m 1278 ls [.int r199, .int r196]) rfl ?_
  refine lv_icmp_eq F.1 F.2.1 d_law_1278 rfl (fun hb200 => ?_) (fun hb200 => ?_)
  · rw [if_pos hb200] at hf
    cases hf
    exact W.widen (by omega) (by omega) (kk X n H locs ls F hP (lv_sub hl [0, 1, 2, 3, 4] rfl))
  · rw [if_neg hb200] at hf
    refine lv_iconst (v := 0) F.1 F.2.1 d_law_1281 (by decide) ?_
    cases hf
noncomputable def g_law_15 (a1 a2 a3 a4 : Int32) (σ : Sg) : Option Sg :=
  bn2 (f_TM_output a1 a2 σ) (fun (r203 : Int32) (σ201 : Sg) => bn2 (f_Md_output a1 a2 σ201) (fun (r206 : Int32) (σ204 : Sg) => (if r203 = r206 then (some σ204) else none)))
set_option maxHeartbeats 4000000 in
set_option maxRecDepth 100000 in
theorem s_law_15 {p : Program} {l : Launch} {e : Env} {s : State} {m : MethodId} {args : Array Value} {below : List Frame} {meth : Method} {c : Code} {Q : State → Prop} {b L : Nat} {xs : Nat → Int32} {cells slots n : Nat} {X : GX} {ls : Array Slot} {H : Heap} {locs : List Loc} {σ σ' : Sg} {iv a1 a2 a3 a4 : Int32} (hfl : l.flags = flags0) (F : Fx X p s m c code 8 args "TableMachineLaw") (hP : SL X n σ s.heap H locs) (hl : lv_has ls 8 [(0, .ref b), (1, .ref (xL X 0 0)), (2, .ref (xL X 9 0)), (3, .ref (xL X 44 0)), (4, .int iv)]) (hX : va_X b L xs s s.heap) (hbl : b < s.heap.size) (hin1 : vp_in (iv + 1) L) (hin2 : vp_in (iv + 2) L) (hin3 : vp_in (iv + 3) L) (hin4 : vp_in (iv + 4) L) (hx1 : xs (iv + 1).toNatClampNeg = a1) (hx2 : xs (iv + 2).toNatClampNeg = a2) (hx3 : xs (iv + 3).toNatClampNeg = a3) (hx4 : xs (iv + 4).toNatClampNeg = a4) (hcs : cells + 5 ≤ 601024 ∧ slots + 728 ≤ 7293034) (hf : g_law_15 a1 a2 a3 a4 σ = some σ')
    (kk : ∀ (X : GX) (n : Nat) (H : Heap) (locs : List Loc) (ls : Array Slot), Fx X p s m c code 8 args "TableMachineLaw" → SL X n σ' s.heap H locs → lv_has ls 8 [(0, .ref b), (1, .ref (xL X 0 0)), (2, .ref (xL X 9 0)), (3, .ref (xL X 44 0)), (4, .int iv)] → W p l e room_1 s m args below meth c H locs (cells + 5) (slots + 728) Q (F0 m 1462 ls [])) : W p l e room_1 s m args below meth c H locs cells slots Q (F0 m 1283 ls []) := by
  unfold g_law_15 at hf
  refine lv_aload_n F.1 F.2.1 d_law_1283 rfl (lv_at hl 1 rfl) ?_
  refine lv_aload_n F.1 F.2.1 d_law_1284 rfl (lv_at hl 0 rfl) ?_
  refine lv_iload F.1 F.2.1 d_law_1285 (lv_at hl 4 rfl) ?_
  refine lv_iconst (v := 1) F.1 F.2.1 d_law_1287 (by decide) ?_
  refine lv_iadd F.1 F.2.1 d_law_1288 ?_
  refine h_scr F hP hX hbl hin1 hx1 d_law_1289 ?_
  refine lv_aload_n F.1 F.2.1 d_law_1290 rfl (lv_at hl 0 rfl) ?_
  refine lv_iload F.1 F.2.1 d_law_1291 (lv_at hl 4 rfl) ?_
  refine lv_iconst (v := 2) F.1 F.2.1 d_law_1293 (by decide) ?_
  refine lv_iadd F.1 F.2.1 d_law_1294 ?_
  refine h_scr F hP hX hbl hin2 hx2 d_law_1295 ?_
  obtain ⟨r203, σ201, hk202, hf⟩ := bn2_some hf
  refine h_callV (As := [.int a1, .int a2]) (rest := []) F hP 0 0 (by decide) Nat.zero_lt_one (c_TM_output l X n hk202) rfl q_TM_output w_274 w_1 w_271 w_272 w_273 ⟨rfl, rfl⟩ ⟨by decide, by decide⟩ hl.1 (Nat.le_of_ble_eq_true rfl) ⟨by show _ ≤ 601024; omega, by show _ ≤ 7293034; omega⟩ d_law_1296 rfl (fun H locs hP => ?_)
  refine W.eq (g2 := F0 m 1299 ls [.int r203]) rfl ?_
  refine lv_aload_n F.1 F.2.1 d_law_1299 rfl (lv_at hl 2 rfl) ?_
  refine lv_aload_n F.1 F.2.1 d_law_1300 rfl (lv_at hl 0 rfl) ?_
  refine lv_iload F.1 F.2.1 d_law_1301 (lv_at hl 4 rfl) ?_
  refine lv_iconst (v := 1) F.1 F.2.1 d_law_1303 (by decide) ?_
  refine lv_iadd F.1 F.2.1 d_law_1304 ?_
  refine h_scr F hP hX hbl hin1 hx1 d_law_1305 ?_
  refine lv_aload_n F.1 F.2.1 d_law_1306 rfl (lv_at hl 0 rfl) ?_
  refine lv_iload F.1 F.2.1 d_law_1307 (lv_at hl 4 rfl) ?_
  refine lv_iconst (v := 2) F.1 F.2.1 d_law_1309 (by decide) ?_
  refine lv_iadd F.1 F.2.1 d_law_1310 ?_
  refine h_scr F hP hX hbl hin2 hx2 d_law_1311 ?_
  obtain ⟨r206, σ204, hk205, hf⟩ := bn2_some hf
  refine h_callV (As := [.int a1, .int a2]) (rest := [.int r203]) F hP 9 0 (by decide) Nat.zero_lt_one (c_Md_output l X n hk205) rfl q_Md_output w_1118 w_11 w_1115 w_1116 w_1117 ⟨rfl, rfl⟩ ⟨by decide, by decide⟩ hl.1 (Nat.le_of_ble_eq_true rfl) ⟨by show _ ≤ 601024; omega, by show _ ≤ 7293034; omega⟩ d_law_1312 rfl (fun H locs hP => ?_)
  refine W.eq (g2 := F0 m 1315 ls [.int r206, .int r203]) rfl ?_
  refine lv_icmp_eq F.1 F.2.1 d_law_1315 rfl (fun hb207 => ?_) (fun hb207 => ?_)
  · rw [if_pos hb207] at hf
    cases hf
    exact W.widen (by omega) (by omega) (kk X n H locs ls F hP (lv_sub hl [0, 1, 2, 3, 4] rfl))
  · rw [if_neg hb207] at hf
    refine lv_iconst (v := 0) F.1 F.2.1 d_law_1318 (by decide) ?_
    cases hf
noncomputable def g_law_16 (a1 a2 a3 a4 : Int32) (σ : Sg) : Option Sg :=
  bn2 (f_TM_condition a1 a2 a3 a4 σ) (fun (r210 : Int32) (σ208 : Sg) => bn2 (f_Md_condition a1 a2 a3 a4 σ208) (fun (r213 : Int32) (σ211 : Sg) => (if r210 = r213 then (some σ211) else none)))
set_option maxHeartbeats 4000000 in
set_option maxRecDepth 100000 in
theorem s_law_16 {p : Program} {l : Launch} {e : Env} {s : State} {m : MethodId} {args : Array Value} {below : List Frame} {meth : Method} {c : Code} {Q : State → Prop} {b L : Nat} {xs : Nat → Int32} {cells slots n : Nat} {X : GX} {ls : Array Slot} {H : Heap} {locs : List Loc} {σ σ' : Sg} {iv a1 a2 a3 a4 : Int32} (hfl : l.flags = flags0) (F : Fx X p s m c code 8 args "TableMachineLaw") (hP : SL X n σ s.heap H locs) (hl : lv_has ls 8 [(0, .ref b), (1, .ref (xL X 0 0)), (2, .ref (xL X 9 0)), (3, .ref (xL X 44 0)), (4, .int iv)]) (hX : va_X b L xs s s.heap) (hbl : b < s.heap.size) (hin1 : vp_in (iv + 1) L) (hin2 : vp_in (iv + 2) L) (hin3 : vp_in (iv + 3) L) (hin4 : vp_in (iv + 4) L) (hx1 : xs (iv + 1).toNatClampNeg = a1) (hx2 : xs (iv + 2).toNatClampNeg = a2) (hx3 : xs (iv + 3).toNatClampNeg = a3) (hx4 : xs (iv + 4).toNatClampNeg = a4) (hcs : cells + 5 ≤ 601024 ∧ slots + 728 ≤ 7293034) (hf : g_law_16 a1 a2 a3 a4 σ = some σ')
    (kk : ∀ (X : GX) (n : Nat) (H : Heap) (locs : List Loc) (ls : Array Slot), Fx X p s m c code 8 args "TableMachineLaw" → SL X n σ' s.heap H locs → lv_has ls 8 [(0, .ref b), (1, .ref (xL X 0 0)), (2, .ref (xL X 9 0)), (3, .ref (xL X 44 0)), (4, .int iv)] → W p l e room_1 s m args below meth c H locs (cells + 5) (slots + 728) Q (F0 m 1462 ls [])) : W p l e room_1 s m args below meth c H locs cells slots Q (F0 m 1320 ls []) := by
  unfold g_law_16 at hf
  refine lv_aload_n F.1 F.2.1 d_law_1320 rfl (lv_at hl 1 rfl) ?_
  refine lv_aload_n F.1 F.2.1 d_law_1321 rfl (lv_at hl 0 rfl) ?_
  refine lv_iload F.1 F.2.1 d_law_1322 (lv_at hl 4 rfl) ?_
  refine lv_iconst (v := 1) F.1 F.2.1 d_law_1324 (by decide) ?_
  refine lv_iadd F.1 F.2.1 d_law_1325 ?_
  refine h_scr F hP hX hbl hin1 hx1 d_law_1326 ?_
  refine lv_aload_n F.1 F.2.1 d_law_1327 rfl (lv_at hl 0 rfl) ?_
  refine lv_iload F.1 F.2.1 d_law_1328 (lv_at hl 4 rfl) ?_
  refine lv_iconst (v := 2) F.1 F.2.1 d_law_1330 (by decide) ?_
  refine lv_iadd F.1 F.2.1 d_law_1331 ?_
  refine h_scr F hP hX hbl hin2 hx2 d_law_1332 ?_
  refine lv_aload_n F.1 F.2.1 d_law_1333 rfl (lv_at hl 0 rfl) ?_
  refine lv_iload F.1 F.2.1 d_law_1334 (lv_at hl 4 rfl) ?_
  refine lv_iconst (v := 3) F.1 F.2.1 d_law_1336 (by decide) ?_
  refine lv_iadd F.1 F.2.1 d_law_1337 ?_
  refine h_scr F hP hX hbl hin3 hx3 d_law_1338 ?_
  refine lv_aload_n F.1 F.2.1 d_law_1339 rfl (lv_at hl 0 rfl) ?_
  refine lv_iload F.1 F.2.1 d_law_1340 (lv_at hl 4 rfl) ?_
  refine lv_iconst (v := 4) F.1 F.2.1 d_law_1342 (by decide) ?_
  refine lv_iadd F.1 F.2.1 d_law_1343 ?_
  refine h_scr F hP hX hbl hin4 hx4 d_law_1344 ?_
  obtain ⟨r210, σ208, hk209, hf⟩ := bn2_some hf
  refine h_callV (As := [.int a1, .int a2, .int a3, .int a4]) (rest := []) F hP 0 0 (by decide) Nat.zero_lt_one (c_TM_condition l X n hk209) rfl q_TM_condition w_282 w_1 w_279 w_280 w_281 ⟨rfl, rfl⟩ ⟨by decide, by decide⟩ hl.1 (Nat.le_of_ble_eq_true rfl) ⟨by show _ ≤ 601024; omega, by show _ ≤ 7293034; omega⟩ d_law_1345 rfl (fun H locs hP => ?_)
  refine W.eq (g2 := F0 m 1348 ls [.int r210]) rfl ?_
  refine lv_aload_n F.1 F.2.1 d_law_1348 rfl (lv_at hl 2 rfl) ?_
  refine lv_aload_n F.1 F.2.1 d_law_1349 rfl (lv_at hl 0 rfl) ?_
  refine lv_iload F.1 F.2.1 d_law_1350 (lv_at hl 4 rfl) ?_
  refine lv_iconst (v := 1) F.1 F.2.1 d_law_1352 (by decide) ?_
  refine lv_iadd F.1 F.2.1 d_law_1353 ?_
  refine h_scr F hP hX hbl hin1 hx1 d_law_1354 ?_
  refine lv_aload_n F.1 F.2.1 d_law_1355 rfl (lv_at hl 0 rfl) ?_
  refine lv_iload F.1 F.2.1 d_law_1356 (lv_at hl 4 rfl) ?_
  refine lv_iconst (v := 2) F.1 F.2.1 d_law_1358 (by decide) ?_
  refine lv_iadd F.1 F.2.1 d_law_1359 ?_
  refine h_scr F hP hX hbl hin2 hx2 d_law_1360 ?_
  refine lv_aload_n F.1 F.2.1 d_law_1361 rfl (lv_at hl 0 rfl) ?_
  refine lv_iload F.1 F.2.1 d_law_1362 (lv_at hl 4 rfl) ?_
  refine lv_iconst (v := 3) F.1 F.2.1 d_law_1364 (by decide) ?_
  refine lv_iadd F.1 F.2.1 d_law_1365 ?_
  refine h_scr F hP hX hbl hin3 hx3 d_law_1366 ?_
  refine lv_aload_n F.1 F.2.1 d_law_1367 rfl (lv_at hl 0 rfl) ?_
  refine lv_iload F.1 F.2.1 d_law_1368 (lv_at hl 4 rfl) ?_
  refine lv_iconst (v := 4) F.1 F.2.1 d_law_1370 (by decide) ?_
  refine lv_iadd F.1 F.2.1 d_law_1371 ?_
  refine h_scr F hP hX hbl hin4 hx4 d_law_1372 ?_
  obtain ⟨r213, σ211, hk212, hf⟩ := bn2_some hf
  refine h_callV (As := [.int a1, .int a2, .int a3, .int a4]) (rest := [.int r210]) F hP 9 0 (by decide) Nat.zero_lt_one (c_Md_condition l X n hk212) rfl q_Md_condition w_1130 w_11 w_1127 w_1128 w_1129 ⟨rfl, rfl⟩ ⟨by decide, by decide⟩ hl.1 (Nat.le_of_ble_eq_true rfl) ⟨by show _ ≤ 601024; omega, by show _ ≤ 7293034; omega⟩ d_law_1373 rfl (fun H locs hP => ?_)
  refine W.eq (g2 := F0 m 1376 ls [.int r213, .int r210]) rfl ?_
  refine lv_icmp_eq F.1 F.2.1 d_law_1376 rfl (fun hb214 => ?_) (fun hb214 => ?_)
  · rw [if_pos hb214] at hf
    cases hf
    exact W.widen (by omega) (by omega) (kk X n H locs ls F hP (lv_sub hl [0, 1, 2, 3, 4] rfl))
  · rw [if_neg hb214] at hf
    refine lv_iconst (v := 0) F.1 F.2.1 d_law_1379 (by decide) ?_
    cases hf
noncomputable def g_law_17 (a1 a2 a3 a4 : Int32) (σ : Sg) : Option Sg :=
  bn2 (f_TM_join a1 a2 σ) (fun (r217 : Int32) (σ215 : Sg) => bn2 (f_Md_join a1 a2 σ215) (fun (r220 : Int32) (σ218 : Sg) => (if r217 = r220 then (some σ218) else none)))
set_option maxHeartbeats 4000000 in
set_option maxRecDepth 100000 in
theorem s_law_17 {p : Program} {l : Launch} {e : Env} {s : State} {m : MethodId} {args : Array Value} {below : List Frame} {meth : Method} {c : Code} {Q : State → Prop} {b L : Nat} {xs : Nat → Int32} {cells slots n : Nat} {X : GX} {ls : Array Slot} {H : Heap} {locs : List Loc} {σ σ' : Sg} {iv a1 a2 a3 a4 : Int32} (hfl : l.flags = flags0) (F : Fx X p s m c code 8 args "TableMachineLaw") (hP : SL X n σ s.heap H locs) (hl : lv_has ls 8 [(0, .ref b), (1, .ref (xL X 0 0)), (2, .ref (xL X 9 0)), (3, .ref (xL X 44 0)), (4, .int iv)]) (hX : va_X b L xs s s.heap) (hbl : b < s.heap.size) (hin1 : vp_in (iv + 1) L) (hin2 : vp_in (iv + 2) L) (hin3 : vp_in (iv + 3) L) (hin4 : vp_in (iv + 4) L) (hx1 : xs (iv + 1).toNatClampNeg = a1) (hx2 : xs (iv + 2).toNatClampNeg = a2) (hx3 : xs (iv + 3).toNatClampNeg = a3) (hx4 : xs (iv + 4).toNatClampNeg = a4) (hcs : cells + 5 ≤ 601024 ∧ slots + 728 ≤ 7293034) (hf : g_law_17 a1 a2 a3 a4 σ = some σ')
    (kk : ∀ (X : GX) (n : Nat) (H : Heap) (locs : List Loc) (ls : Array Slot), Fx X p s m c code 8 args "TableMachineLaw" → SL X n σ' s.heap H locs → lv_has ls 8 [(0, .ref b), (1, .ref (xL X 0 0)), (2, .ref (xL X 9 0)), (3, .ref (xL X 44 0)), (4, .int iv)] → W p l e room_1 s m args below meth c H locs (cells + 5) (slots + 728) Q (F0 m 1462 ls [])) : W p l e room_1 s m args below meth c H locs cells slots Q (F0 m 1381 ls []) := by
  unfold g_law_17 at hf
  refine lv_aload_n F.1 F.2.1 d_law_1381 rfl (lv_at hl 1 rfl) ?_
  refine lv_aload_n F.1 F.2.1 d_law_1382 rfl (lv_at hl 0 rfl) ?_
  refine lv_iload F.1 F.2.1 d_law_1383 (lv_at hl 4 rfl) ?_
  refine lv_iconst (v := 1) F.1 F.2.1 d_law_1385 (by decide) ?_
  refine lv_iadd F.1 F.2.1 d_law_1386 ?_
  refine h_scr F hP hX hbl hin1 hx1 d_law_1387 ?_
  refine lv_aload_n F.1 F.2.1 d_law_1388 rfl (lv_at hl 0 rfl) ?_
  refine lv_iload F.1 F.2.1 d_law_1389 (lv_at hl 4 rfl) ?_
  refine lv_iconst (v := 2) F.1 F.2.1 d_law_1391 (by decide) ?_
  refine lv_iadd F.1 F.2.1 d_law_1392 ?_
  refine h_scr F hP hX hbl hin2 hx2 d_law_1393 ?_
  obtain ⟨r217, σ215, hk216, hf⟩ := bn2_some hf
  refine h_callV (As := [.int a1, .int a2]) (rest := []) F hP 0 0 (by decide) Nat.zero_lt_one (c_TM_join l X n hk216) rfl q_TM_join w_286 w_1 w_283 w_284 w_285 ⟨rfl, rfl⟩ ⟨by decide, by decide⟩ hl.1 (Nat.le_of_ble_eq_true rfl) ⟨by show _ ≤ 601024; omega, by show _ ≤ 7293034; omega⟩ d_law_1394 rfl (fun H locs hP => ?_)
  refine W.eq (g2 := F0 m 1397 ls [.int r217]) rfl ?_
  refine lv_aload_n F.1 F.2.1 d_law_1397 rfl (lv_at hl 2 rfl) ?_
  refine lv_aload_n F.1 F.2.1 d_law_1398 rfl (lv_at hl 0 rfl) ?_
  refine lv_iload F.1 F.2.1 d_law_1399 (lv_at hl 4 rfl) ?_
  refine lv_iconst (v := 1) F.1 F.2.1 d_law_1401 (by decide) ?_
  refine lv_iadd F.1 F.2.1 d_law_1402 ?_
  refine h_scr F hP hX hbl hin1 hx1 d_law_1403 ?_
  refine lv_aload_n F.1 F.2.1 d_law_1404 rfl (lv_at hl 0 rfl) ?_
  refine lv_iload F.1 F.2.1 d_law_1405 (lv_at hl 4 rfl) ?_
  refine lv_iconst (v := 2) F.1 F.2.1 d_law_1407 (by decide) ?_
  refine lv_iadd F.1 F.2.1 d_law_1408 ?_
  refine h_scr F hP hX hbl hin2 hx2 d_law_1409 ?_
  obtain ⟨r220, σ218, hk219, hf⟩ := bn2_some hf
  refine h_callV (As := [.int a1, .int a2]) (rest := [.int r217]) F hP 9 0 (by decide) Nat.zero_lt_one (c_Md_join l X n hk219) rfl q_Md_join w_1134 w_11 w_1131 w_1132 w_1133 ⟨rfl, rfl⟩ ⟨by decide, by decide⟩ hl.1 (Nat.le_of_ble_eq_true rfl) ⟨by show _ ≤ 601024; omega, by show _ ≤ 7293034; omega⟩ d_law_1410 rfl (fun H locs hP => ?_)
  refine W.eq (g2 := F0 m 1413 ls [.int r220, .int r217]) rfl ?_
  refine lv_icmp_eq F.1 F.2.1 d_law_1413 rfl (fun hb221 => ?_) (fun hb221 => ?_)
  · rw [if_pos hb221] at hf
    cases hf
    exact W.widen (by omega) (by omega) (kk X n H locs ls F hP (lv_sub hl [0, 1, 2, 3, 4] rfl))
  · rw [if_neg hb221] at hf
    refine lv_iconst (v := 0) F.1 F.2.1 d_law_1416 (by decide) ?_
    cases hf
noncomputable def g_law_18 (a1 a2 a3 a4 : Int32) (σ : Sg) : Option Sg :=
  bn2 (f_Lw_compile σ) (fun (r224 : Int32) (σ222 : Sg) => bn2 (f_Md_compile σ222) (fun (r227 : Int32) (σ225 : Sg) => bn2 (f_Md_thrown σ225) (fun (r230 : Int32) (σ228 : Sg) => (if r230 = r224 then (if r224 = 0 then (chk (vp_in 0 1) ((if (gj σ228 44 0 ((0 : Int32).toNatClampNeg)) = r227.toInt64 then (some σ228) else none))) else (some σ228)) else none))))
set_option maxHeartbeats 4000000 in
set_option maxRecDepth 100000 in
theorem s_law_18 {p : Program} {l : Launch} {e : Env} {s : State} {m : MethodId} {args : Array Value} {below : List Frame} {meth : Method} {c : Code} {Q : State → Prop} {b L : Nat} {xs : Nat → Int32} {cells slots n : Nat} {X : GX} {ls : Array Slot} {H : Heap} {locs : List Loc} {σ σ' : Sg} {iv a1 a2 a3 a4 : Int32} (hfl : l.flags = flags0) (F : Fx X p s m c code 8 args "TableMachineLaw") (hP : SL X n σ s.heap H locs) (hl : lv_has ls 8 [(0, .ref b), (1, .ref (xL X 0 0)), (2, .ref (xL X 9 0)), (3, .ref (xL X 44 0)), (4, .int iv)]) (hX : va_X b L xs s s.heap) (hbl : b < s.heap.size) (hin1 : vp_in (iv + 1) L) (hin2 : vp_in (iv + 2) L) (hin3 : vp_in (iv + 3) L) (hin4 : vp_in (iv + 4) L) (hx1 : xs (iv + 1).toNatClampNeg = a1) (hx2 : xs (iv + 2).toNatClampNeg = a2) (hx3 : xs (iv + 3).toNatClampNeg = a3) (hx4 : xs (iv + 4).toNatClampNeg = a4) (hcs : cells + 5 ≤ 601024 ∧ slots + 728 ≤ 7293034) (hf : g_law_18 a1 a2 a3 a4 σ = some σ')
    (kk : ∀ (X : GX) (n : Nat) (H : Heap) (locs : List Loc) (ls : Array Slot), Fx X p s m c code 8 args "TableMachineLaw" → SL X n σ' s.heap H locs → lv_has ls 8 [(0, .ref b), (1, .ref (xL X 0 0)), (2, .ref (xL X 9 0)), (3, .ref (xL X 44 0)), (4, .int iv)] → W p l e room_1 s m args below meth c H locs (cells + 5) (slots + 728) Q (F0 m 1462 ls [])) : W p l e room_1 s m args below meth c H locs cells slots Q (F0 m 1418 ls []) := by
  unfold g_law_18 at hf
  refine lv_aload_n F.1 F.2.1 d_law_1418 rfl (lv_at hl 1 rfl) ?_
  refine lv_aload_n F.1 F.2.1 d_law_1419 rfl (lv_at hl 3 rfl) ?_
  obtain ⟨r224, σ222, hk223, hf⟩ := bn2_some hf
  refine h_callH hP (h_runH (As := [.ref (xL X 0 0), .ref (xL X 44 0)]) (rest := []) F hP (c_Lw_compile l X n hfl hk223) ⟨by decide, by decide, q_Lw_compile⟩ wc_Lw_compile w_0 w_818 w_819 ⟨rfl, rfl⟩ ⟨by decide, by decide⟩ hl.1 (Nat.le_of_ble_eq_true rfl) ⟨by show _ ≤ 601024; omega, by show _ ≤ 7293034; omega⟩ d_law_1420 rfl) (fun H locs hP => ?_)
  refine W.eq (g2 := F0 m 1423 ls [.int r224]) rfl ?_
  refine lv_istore F.1 F.2.1 d_law_1423 hl (by decide) rfl (fun ls hl => ?_)
  have hl : lv_has ls 8 [(5, .int r224), (0, .ref b), (1, .ref (xL X 0 0)), (2, .ref (xL X 9 0)), (3, .ref (xL X 44 0)), (4, .int iv)] := hl
  refine lv_aload_n F.1 F.2.1 d_law_1425 rfl (lv_at hl 3 rfl) ?_
  obtain ⟨r227, σ225, hk226, hf⟩ := bn2_some hf
  refine h_callV (As := []) (rest := []) F hP 9 0 (by decide) Nat.zero_lt_one (c_Md_compile l X n hk226) rfl q_Md_compile w_1138 w_11 w_1135 w_1136 w_1137 ⟨rfl, rfl⟩ ⟨by decide, by decide⟩ hl.1 (Nat.le_of_ble_eq_true rfl) ⟨by show _ ≤ 601024; omega, by show _ ≤ 7293034; omega⟩ d_law_1426 rfl (fun H locs hP => ?_)
  refine W.eq (g2 := F0 m 1429 ls [.int r227]) rfl ?_
  refine lv_istore F.1 F.2.1 d_law_1429 hl (by decide) rfl (fun ls hl => ?_)
  have hl : lv_has ls 8 [(6, .int r227), (5, .int r224), (0, .ref b), (1, .ref (xL X 0 0)), (2, .ref (xL X 9 0)), (3, .ref (xL X 44 0)), (4, .int iv)] := hl
  refine lv_aload_n F.1 F.2.1 d_law_1431 rfl (lv_at hl 4 rfl) ?_
  obtain ⟨r230, σ228, hk229, hf⟩ := bn2_some hf
  refine h_callV (As := []) (rest := []) F hP 9 0 (by decide) Nat.zero_lt_one (c_Md_thrown l X n hk229) rfl q_Md_thrown w_975 w_11 w_972 w_973 w_974 ⟨rfl, rfl⟩ ⟨by decide, by decide⟩ hl.1 (Nat.le_of_ble_eq_true rfl) ⟨by show _ ≤ 601024; omega, by show _ ≤ 7293034; omega⟩ d_law_1432 rfl (fun H locs hP => ?_)
  refine W.eq (g2 := F0 m 1435 ls [.int r230]) rfl ?_
  refine lv_iload F.1 F.2.1 d_law_1435 (lv_at hl 1 rfl) ?_
  refine lv_icmp_eq F.1 F.2.1 d_law_1437 rfl (fun hb234 => ?_) (fun hb234 => ?_)
  · rw [if_pos hb234] at hf
    refine lv_iload F.1 F.2.1 d_law_1442 (lv_at hl 1 rfl) ?_
    refine lv_if_ne F.1 F.2.1 d_law_1444 rfl (fun hb233 => ?_) (fun hb233 => ?_)
    · rw [if_neg hb233] at hf
      refine lv_goto F.1 F.2.1 d_law_1459 rfl ?_
      cases hf
      exact kk X n H locs ls F hP (lv_sub hl [2, 3, 4, 5, 6] rfl)
    · rw [if_pos hb233] at hf
      refine lv_aload_n F.1 F.2.1 d_law_1447 rfl (lv_at hl 5 rfl) ?_
      refine lv_iconst (v := 0) F.1 F.2.1 d_law_1448 (by decide) ?_
      obtain ⟨hc231, hf⟩ := chk_some hf
      refine h_lld F hP 44 (by decide) (by decide) Nat.zero_lt_one rfl rfl hc231 d_law_1449 ?_
      refine lv_iload F.1 F.2.1 d_law_1450 (lv_at hl 0 rfl) ?_
      refine lv_i2l F.1 F.2.1 d_law_1452 rfl ?_
      refine g_lc_eq F d_law_1453 d_law_1454 rfl (fun hb232 => ?_) (fun hb232 => ?_)
      · rw [if_pos hb232] at hf
        refine lv_goto F.1 F.2.1 d_law_1459 rfl ?_
        cases hf
        exact kk X n H locs ls F hP (lv_sub hl [2, 3, 4, 5, 6] rfl)
      · rw [if_neg hb232] at hf
        refine lv_iconst (v := 0) F.1 F.2.1 d_law_1457 (by decide) ?_
        cases hf
  · rw [if_neg hb234] at hf
    refine lv_iconst (v := 0) F.1 F.2.1 d_law_1440 (by decide) ?_
    cases hf
