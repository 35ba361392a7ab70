/-! facts for the blocks (printed by genblk.py) -/
set_option maxRecDepth 100000
theorem i_261_203 : ins 261 203 = some (.iconst 1, 1) := by decide +kernel
theorem i_261_204 : ins 261 204 = some (.iadd, 1) := by decide +kernel
theorem i_261_205 : ins 261 205 = some (.iaload, 1) := by decide +kernel
theorem v_261_13 : inv 261 13 = some (1, 1, 1, 1048582) := by decide +kernel
theorem i_261_206 : ins 261 206 = some (.invokevirtual 13, 3) := by decide +kernel
theorem i_261_209 : ins 261 209 = some (.aload_n 2, 1) := by decide +kernel
theorem i_261_210 : ins 261 210 = some (.aload_n 0, 1) := by decide +kernel
theorem i_261_211 : ins 261 211 = some (.iload_n 3, 1) := by decide +kernel
theorem i_261_212 : ins 261 212 = some (.iconst 1, 1) := by decide +kernel
theorem i_261_213 : ins 261 213 = some (.iadd, 1) := by decide +kernel
theorem i_261_214 : ins 261 214 = some (.iaload, 1) := by decide +kernel
theorem v_261_17 : inv 261 17 = some (93, 1, 1, 7340134) := by decide +kernel
theorem i_261_215 : ins 261 215 = some (.invokevirtual 17, 3) := by decide +kernel
theorem i_261_218 : ins 261 218 = some (.if_icmp .eq 1607, 3) := by decide +kernel
theorem t_218_1825 : tg 218 (1607) = some 1825 := by decide +kernel
theorem i_261_221 : ins 261 221 = some (.iconst 0, 1) := by decide +kernel
theorem r_261 : mret 261 = 2 := by decide +kernel
theorem i_261_222 : ins 261 222 = some (.ireturn, 1) := by decide +kernel
theorem i_261_223 : ins 261 223 = some (.aload_n 1, 1) := by decide +kernel
theorem i_261_224 : ins 261 224 = some (.aload_n 0, 1) := by decide +kernel
theorem i_261_225 : ins 261 225 = some (.iload_n 3, 1) := by decide +kernel
theorem i_261_226 : ins 261 226 = some (.iconst 1, 1) := by decide +kernel
theorem i_261_227 : ins 261 227 = some (.iadd, 1) := by decide +kernel
theorem i_261_228 : ins 261 228 = some (.iaload, 1) := by decide +kernel
theorem v_261_18 : inv 261 18 = some (3, 1, 1, 1048582) := by decide +kernel
theorem i_261_229 : ins 261 229 = some (.invokevirtual 18, 3) := by decide +kernel
theorem i_261_232 : ins 261 232 = some (.aload_n 2, 1) := by decide +kernel
theorem i_261_233 : ins 261 233 = some (.aload_n 0, 1) := by decide +kernel
theorem i_261_234 : ins 261 234 = some (.iload_n 3, 1) := by decide +kernel
theorem i_261_235 : ins 261 235 = some (.iconst 1, 1) := by decide +kernel
theorem i_261_236 : ins 261 236 = some (.iadd, 1) := by decide +kernel
theorem i_261_237 : ins 261 237 = some (.iaload, 1) := by decide +kernel
theorem v_261_22 : inv 261 22 = some (95, 1, 1, 7340134) := by decide +kernel
theorem i_261_238 : ins 261 238 = some (.invokevirtual 22, 3) := by decide +kernel
theorem i_261_241 : ins 261 241 = some (.if_icmp .eq 1584, 3) := by decide +kernel
theorem t_241_1825 : tg 241 (1584) = some 1825 := by decide +kernel
theorem i_261_244 : ins 261 244 = some (.iconst 0, 1) := by decide +kernel
theorem i_261_245 : ins 261 245 = some (.ireturn, 1) := by decide +kernel
theorem i_261_246 : ins 261 246 = some (.aload_n 1, 1) := by decide +kernel
theorem i_261_247 : ins 261 247 = some (.aload_n 0, 1) := by decide +kernel
theorem i_261_248 : ins 261 248 = some (.iload_n 3, 1) := by decide +kernel
theorem i_261_249 : ins 261 249 = some (.iconst 1, 1) := by decide +kernel
theorem i_261_250 : ins 261 250 = some (.iadd, 1) := by decide +kernel
theorem i_261_251 : ins 261 251 = some (.iaload, 1) := by decide +kernel
theorem i_261_252 : ins 261 252 = some (.aload_n 0, 1) := by decide +kernel
theorem i_261_253 : ins 261 253 = some (.iload_n 3, 1) := by decide +kernel
theorem i_261_254 : ins 261 254 = some (.iconst 2, 1) := by decide +kernel
theorem i_261_255 : ins 261 255 = some (.iadd, 1) := by decide +kernel
theorem i_261_256 : ins 261 256 = some (.iaload, 1) := by decide +kernel
theorem i_261_257 : ins 261 257 = some (.aload_n 0, 1) := by decide +kernel
theorem i_261_258 : ins 261 258 = some (.iload_n 3, 1) := by decide +kernel
theorem i_261_259 : ins 261 259 = some (.iconst 3, 1) := by decide +kernel
theorem i_261_260 : ins 261 260 = some (.iadd, 1) := by decide +kernel
theorem i_261_261 : ins 261 261 = some (.iaload, 1) := by decide +kernel
theorem v_261_23 : inv 261 23 = some (4, 3, 1, 1048582) := by decide +kernel
theorem i_261_262 : ins 261 262 = some (.invokevirtual 23, 3) := by decide +kernel
theorem i_261_265 : ins 261 265 = some (.aload_n 2, 1) := by decide +kernel
theorem i_261_266 : ins 261 266 = some (.aload_n 0, 1) := by decide +kernel
theorem i_261_267 : ins 261 267 = some (.iload_n 3, 1) := by decide +kernel
theorem i_261_268 : ins 261 268 = some (.iconst 1, 1) := by decide +kernel
theorem i_261_269 : ins 261 269 = some (.iadd, 1) := by decide +kernel
theorem i_261_270 : ins 261 270 = some (.iaload, 1) := by decide +kernel
theorem i_261_271 : ins 261 271 = some (.aload_n 0, 1) := by decide +kernel
theorem i_261_272 : ins 261 272 = some (.iload_n 3, 1) := by decide +kernel
theorem i_261_273 : ins 261 273 = some (.iconst 2, 1) := by decide +kernel
theorem i_261_274 : ins 261 274 = some (.iadd, 1) := by decide +kernel
theorem i_261_275 : ins 261 275 = some (.iaload, 1) := by decide +kernel
theorem i_261_276 : ins 261 276 = some (.aload_n 0, 1) := by decide +kernel
theorem i_261_277 : ins 261 277 = some (.iload_n 3, 1) := by decide +kernel
theorem i_261_278 : ins 261 278 = some (.iconst 3, 1) := by decide +kernel
theorem i_261_279 : ins 261 279 = some (.iadd, 1) := by decide +kernel
theorem i_261_280 : ins 261 280 = some (.iaload, 1) := by decide +kernel
theorem v_261_27 : inv 261 27 = some (96, 3, 1, 7340134) := by decide +kernel
theorem i_261_281 : ins 261 281 = some (.invokevirtual 27, 3) := by decide +kernel
theorem i_261_284 : ins 261 284 = some (.if_icmp .eq 1541, 3) := by decide +kernel
theorem t_284_1825 : tg 284 (1541) = some 1825 := by decide +kernel
theorem i_261_287 : ins 261 287 = some (.iconst 0, 1) := by decide +kernel
theorem i_261_288 : ins 261 288 = some (.ireturn, 1) := by decide +kernel
theorem i_261_289 : ins 261 289 = some (.aload_n 1, 1) := by decide +kernel
theorem i_261_290 : ins 261 290 = some (.aload_n 0, 1) := by decide +kernel
theorem i_261_291 : ins 261 291 = some (.iload_n 3, 1) := by decide +kernel
theorem i_261_292 : ins 261 292 = some (.iconst 1, 1) := by decide +kernel
theorem i_261_293 : ins 261 293 = some (.iadd, 1) := by decide +kernel
theorem i_261_294 : ins 261 294 = some (.iaload, 1) := by decide +kernel
theorem i_261_295 : ins 261 295 = some (.aload_n 0, 1) := by decide +kernel
theorem i_261_296 : ins 261 296 = some (.iload_n 3, 1) := by decide +kernel
theorem i_261_297 : ins 261 297 = some (.iconst 2, 1) := by decide +kernel
theorem i_261_298 : ins 261 298 = some (.iadd, 1) := by decide +kernel
theorem i_261_299 : ins 261 299 = some (.iaload, 1) := by decide +kernel
theorem i_261_300 : ins 261 300 = some (.aload_n 0, 1) := by decide +kernel
theorem i_261_301 : ins 261 301 = some (.iload_n 3, 1) := by decide +kernel
theorem i_261_302 : ins 261 302 = some (.iconst 3, 1) := by decide +kernel
theorem i_261_303 : ins 261 303 = some (.iadd, 1) := by decide +kernel
theorem i_261_304 : ins 261 304 = some (.iaload, 1) := by decide +kernel
theorem i_261_305 : ins 261 305 = some (.aload_n 0, 1) := by decide +kernel
theorem i_261_306 : ins 261 306 = some (.iload_n 3, 1) := by decide +kernel
theorem i_261_307 : ins 261 307 = some (.iconst 4, 1) := by decide +kernel
theorem i_261_308 : ins 261 308 = some (.iadd, 1) := by decide +kernel
theorem i_261_309 : ins 261 309 = some (.iaload, 1) := by decide +kernel
theorem v_261_28 : inv 261 28 = some (6, 4, 1, 1048582) := by decide +kernel
theorem i_261_310 : ins 261 310 = some (.invokevirtual 28, 3) := by decide +kernel
theorem i_261_313 : ins 261 313 = some (.aload_n 2, 1) := by decide +kernel
theorem i_261_314 : ins 261 314 = some (.aload_n 0, 1) := by decide +kernel
theorem i_261_315 : ins 261 315 = some (.iload_n 3, 1) := by decide +kernel
theorem i_261_316 : ins 261 316 = some (.iconst 1, 1) := by decide +kernel
theorem i_261_317 : ins 261 317 = some (.iadd, 1) := by decide +kernel
theorem i_261_318 : ins 261 318 = some (.iaload, 1) := by decide +kernel
theorem i_261_319 : ins 261 319 = some (.aload_n 0, 1) := by decide +kernel
theorem i_261_320 : ins 261 320 = some (.iload_n 3, 1) := by decide +kernel
theorem i_261_321 : ins 261 321 = some (.iconst 2, 1) := by decide +kernel
theorem i_261_322 : ins 261 322 = some (.iadd, 1) := by decide +kernel
theorem i_261_323 : ins 261 323 = some (.iaload, 1) := by decide +kernel
theorem i_261_324 : ins 261 324 = some (.aload_n 0, 1) := by decide +kernel
theorem i_261_325 : ins 261 325 = some (.iload_n 3, 1) := by decide +kernel
theorem i_261_326 : ins 261 326 = some (.iconst 3, 1) := by decide +kernel
theorem i_261_327 : ins 261 327 = some (.iadd, 1) := by decide +kernel
theorem i_261_328 : ins 261 328 = some (.iaload, 1) := by decide +kernel
theorem i_261_329 : ins 261 329 = some (.aload_n 0, 1) := by decide +kernel
theorem i_261_330 : ins 261 330 = some (.iload_n 3, 1) := by decide +kernel
theorem i_261_331 : ins 261 331 = some (.iconst 4, 1) := by decide +kernel
theorem i_261_332 : ins 261 332 = some (.iadd, 1) := by decide +kernel
theorem i_261_333 : ins 261 333 = some (.iaload, 1) := by decide +kernel
theorem v_261_32 : inv 261 32 = some (98, 4, 1, 7340134) := by decide +kernel
theorem i_261_334 : ins 261 334 = some (.invokevirtual 32, 3) := by decide +kernel
theorem i_261_337 : ins 261 337 = some (.if_icmp .eq 1488, 3) := by decide +kernel
theorem t_337_1825 : tg 337 (1488) = some 1825 := by decide +kernel
theorem i_261_340 : ins 261 340 = some (.iconst 0, 1) := by decide +kernel
theorem i_261_341 : ins 261 341 = some (.ireturn, 1) := by decide +kernel
theorem i_261_342 : ins 261 342 = some (.aload_n 1, 1) := by decide +kernel
theorem i_261_343 : ins 261 343 = some (.aload_n 0, 1) := by decide +kernel
theorem i_261_344 : ins 261 344 = some (.iload_n 3, 1) := by decide +kernel
theorem i_261_345 : ins 261 345 = some (.iconst 1, 1) := by decide +kernel
theorem i_261_346 : ins 261 346 = some (.iadd, 1) := by decide +kernel
theorem i_261_347 : ins 261 347 = some (.iaload, 1) := by decide +kernel
theorem i_261_348 : ins 261 348 = some (.aload_n 0, 1) := by decide +kernel
theorem i_261_349 : ins 261 349 = some (.iload_n 3, 1) := by decide +kernel
theorem i_261_350 : ins 261 350 = some (.iconst 2, 1) := by decide +kernel
theorem i_261_351 : ins 261 351 = some (.iadd, 1) := by decide +kernel
theorem i_261_352 : ins 261 352 = some (.iaload, 1) := by decide +kernel
theorem i_261_353 : ins 261 353 = some (.aload_n 0, 1) := by decide +kernel
theorem i_261_354 : ins 261 354 = some (.iload_n 3, 1) := by decide +kernel
theorem i_261_355 : ins 261 355 = some (.iconst 3, 1) := by decide +kernel
theorem i_261_356 : ins 261 356 = some (.iadd, 1) := by decide +kernel
theorem i_261_357 : ins 261 357 = some (.iaload, 1) := by decide +kernel
theorem i_261_358 : ins 261 358 = some (.aload_n 0, 1) := by decide +kernel
theorem i_261_359 : ins 261 359 = some (.iload_n 3, 1) := by decide +kernel
theorem i_261_360 : ins 261 360 = some (.iconst 4, 1) := by decide +kernel
theorem i_261_361 : ins 261 361 = some (.iadd, 1) := by decide +kernel
theorem i_261_362 : ins 261 362 = some (.iaload, 1) := by decide +kernel
theorem v_261_33 : inv 261 33 = some (9, 4, 1, 1048582) := by decide +kernel
theorem i_261_363 : ins 261 363 = some (.invokevirtual 33, 3) := by decide +kernel
theorem i_261_366 : ins 261 366 = some (.aload_n 2, 1) := by decide +kernel
theorem i_261_367 : ins 261 367 = some (.aload_n 0, 1) := by decide +kernel
theorem i_261_368 : ins 261 368 = some (.iload_n 3, 1) := by decide +kernel
theorem i_261_369 : ins 261 369 = some (.iconst 1, 1) := by decide +kernel
theorem i_261_370 : ins 261 370 = some (.iadd, 1) := by decide +kernel
theorem i_261_371 : ins 261 371 = some (.iaload, 1) := by decide +kernel
theorem i_261_372 : ins 261 372 = some (.aload_n 0, 1) := by decide +kernel
theorem i_261_373 : ins 261 373 = some (.iload_n 3, 1) := by decide +kernel
theorem i_261_374 : ins 261 374 = some (.iconst 2, 1) := by decide +kernel
theorem i_261_375 : ins 261 375 = some (.iadd, 1) := by decide +kernel
theorem i_261_376 : ins 261 376 = some (.iaload, 1) := by decide +kernel
theorem i_261_377 : ins 261 377 = some (.aload_n 0, 1) := by decide +kernel
theorem i_261_378 : ins 261 378 = some (.iload_n 3, 1) := by decide +kernel
theorem i_261_379 : ins 261 379 = some (.iconst 3, 1) := by decide +kernel
theorem i_261_380 : ins 261 380 = some (.iadd, 1) := by decide +kernel
theorem i_261_381 : ins 261 381 = some (.iaload, 1) := by decide +kernel
theorem i_261_382 : ins 261 382 = some (.aload_n 0, 1) := by decide +kernel
theorem i_261_383 : ins 261 383 = some (.iload_n 3, 1) := by decide +kernel
theorem i_261_384 : ins 261 384 = some (.iconst 4, 1) := by decide +kernel
theorem i_261_385 : ins 261 385 = some (.iadd, 1) := by decide +kernel
theorem i_261_386 : ins 261 386 = some (.iaload, 1) := by decide +kernel
theorem v_261_36 : inv 261 36 = some (101, 4, 1, 7340134) := by decide +kernel
theorem i_261_387 : ins 261 387 = some (.invokevirtual 36, 3) := by decide +kernel
theorem i_261_390 : ins 261 390 = some (.if_icmp .eq 1435, 3) := by decide +kernel
theorem t_390_1825 : tg 390 (1435) = some 1825 := by decide +kernel
theorem i_261_393 : ins 261 393 = some (.iconst 0, 1) := by decide +kernel
theorem i_261_394 : ins 261 394 = some (.ireturn, 1) := by decide +kernel
theorem i_261_395 : ins 261 395 = some (.aload_n 1, 1) := by decide +kernel
theorem i_261_396 : ins 261 396 = some (.aload_n 0, 1) := by decide +kernel
theorem i_261_397 : ins 261 397 = some (.iload_n 3, 1) := by decide +kernel
theorem i_261_398 : ins 261 398 = some (.iconst 1, 1) := by decide +kernel
theorem i_261_399 : ins 261 399 = some (.iadd, 1) := by decide +kernel
theorem i_261_400 : ins 261 400 = some (.iaload, 1) := by decide +kernel
theorem i_261_401 : ins 261 401 = some (.aload_n 0, 1) := by decide +kernel
theorem i_261_402 : ins 261 402 = some (.iload_n 3, 1) := by decide +kernel
theorem i_261_403 : ins 261 403 = some (.iconst 2, 1) := by decide +kernel
theorem i_261_404 : ins 261 404 = some (.iadd, 1) := by decide +kernel
theorem i_261_405 : ins 261 405 = some (.iaload, 1) := by decide +kernel
theorem i_261_406 : ins 261 406 = some (.ifCond .eq 7, 3) := by decide +kernel
theorem t_406_413 : tg 406 (7) = some 413 := by decide +kernel
theorem i_261_409 : ins 261 409 = some (.iconst 1, 1) := by decide +kernel
theorem i_261_410 : ins 261 410 = some (.goto 4, 3) := by decide +kernel
theorem t_410_414 : tg 410 (4) = some 414 := by decide +kernel
theorem i_261_413 : ins 261 413 = some (.iconst 0, 1) := by decide +kernel
theorem i_261_414 : ins 261 414 = some (.aload_n 0, 1) := by decide +kernel
theorem i_261_415 : ins 261 415 = some (.iload_n 3, 1) := by decide +kernel
theorem i_261_416 : ins 261 416 = some (.iconst 3, 1) := by decide +kernel
theorem i_261_417 : ins 261 417 = some (.iadd, 1) := by decide +kernel
theorem i_261_418 : ins 261 418 = some (.iaload, 1) := by decide +kernel
theorem i_261_419 : ins 261 419 = some (.aload_n 0, 1) := by decide +kernel
theorem i_261_420 : ins 261 420 = some (.iload_n 3, 1) := by decide +kernel
theorem i_261_421 : ins 261 421 = some (.iconst 4, 1) := by decide +kernel
theorem i_261_422 : ins 261 422 = some (.iadd, 1) := by decide +kernel
theorem i_261_423 : ins 261 423 = some (.iaload, 1) := by decide +kernel
theorem i_261_424 : ins 261 424 = some (.aload_n 0, 1) := by decide +kernel
theorem i_261_425 : ins 261 425 = some (.iload_n 3, 1) := by decide +kernel
theorem i_261_426 : ins 261 426 = some (.iconst 5, 1) := by decide +kernel
theorem i_261_427 : ins 261 427 = some (.iadd, 1) := by decide +kernel
theorem i_261_428 : ins 261 428 = some (.iaload, 1) := by decide +kernel
theorem i_261_429 : ins 261 429 = some (.aload_n 0, 1) := by decide +kernel
theorem i_261_430 : ins 261 430 = some (.iload_n 3, 1) := by decide +kernel
theorem i_261_431 : ins 261 431 = some (.bipush 6, 2) := by decide +kernel
theorem i_261_433 : ins 261 433 = some (.iadd, 1) := by decide +kernel
theorem i_261_434 : ins 261 434 = some (.iaload, 1) := by decide +kernel
theorem i_261_435 : ins 261 435 = some (.aload_n 0, 1) := by decide +kernel
theorem i_261_436 : ins 261 436 = some (.iload_n 3, 1) := by decide +kernel
theorem i_261_437 : ins 261 437 = some (.bipush 7, 2) := by decide +kernel
theorem i_261_439 : ins 261 439 = some (.iadd, 1) := by decide +kernel
theorem i_261_440 : ins 261 440 = some (.iaload, 1) := by decide +kernel
theorem i_261_441 : ins 261 441 = some (.ifCond .eq 7, 3) := by decide +kernel
theorem t_441_448 : tg 441 (7) = some 448 := by decide +kernel
theorem i_261_444 : ins 261 444 = some (.iconst 1, 1) := by decide +kernel
theorem i_261_445 : ins 261 445 = some (.goto 4, 3) := by decide +kernel
theorem t_445_449 : tg 445 (4) = some 449 := by decide +kernel
theorem i_261_448 : ins 261 448 = some (.iconst 0, 1) := by decide +kernel
theorem v_261_37 : inv 261 37 = some (12, 7, 1, 1048582) := by decide +kernel
theorem i_261_449 : ins 261 449 = some (.invokevirtual 37, 3) := by decide +kernel
theorem i_261_452 : ins 261 452 = some (.aload_n 2, 1) := by decide +kernel
theorem i_261_453 : ins 261 453 = some (.aload_n 0, 1) := by decide +kernel
theorem i_261_454 : ins 261 454 = some (.iload_n 3, 1) := by decide +kernel
theorem i_261_455 : ins 261 455 = some (.iconst 1, 1) := by decide +kernel
theorem i_261_456 : ins 261 456 = some (.iadd, 1) := by decide +kernel
theorem i_261_457 : ins 261 457 = some (.iaload, 1) := by decide +kernel
theorem i_261_458 : ins 261 458 = some (.aload_n 0, 1) := by decide +kernel
theorem i_261_459 : ins 261 459 = some (.iload_n 3, 1) := by decide +kernel
theorem i_261_460 : ins 261 460 = some (.iconst 2, 1) := by decide +kernel
theorem i_261_461 : ins 261 461 = some (.iadd, 1) := by decide +kernel
theorem i_261_462 : ins 261 462 = some (.iaload, 1) := by decide +kernel
theorem i_261_463 : ins 261 463 = some (.ifCond .eq 7, 3) := by decide +kernel
theorem t_463_470 : tg 463 (7) = some 470 := by decide +kernel
theorem i_261_466 : ins 261 466 = some (.iconst 1, 1) := by decide +kernel
theorem i_261_467 : ins 261 467 = some (.goto 4, 3) := by decide +kernel
theorem t_467_471 : tg 467 (4) = some 471 := by decide +kernel
theorem i_261_470 : ins 261 470 = some (.iconst 0, 1) := by decide +kernel
theorem i_261_471 : ins 261 471 = some (.aload_n 0, 1) := by decide +kernel
theorem i_261_472 : ins 261 472 = some (.iload_n 3, 1) := by decide +kernel
theorem i_261_473 : ins 261 473 = some (.iconst 3, 1) := by decide +kernel
theorem i_261_474 : ins 261 474 = some (.iadd, 1) := by decide +kernel
theorem i_261_475 : ins 261 475 = some (.iaload, 1) := by decide +kernel
theorem i_261_476 : ins 261 476 = some (.aload_n 0, 1) := by decide +kernel
theorem i_261_477 : ins 261 477 = some (.iload_n 3, 1) := by decide +kernel
theorem i_261_478 : ins 261 478 = some (.iconst 4, 1) := by decide +kernel
theorem i_261_479 : ins 261 479 = some (.iadd, 1) := by decide +kernel
theorem i_261_480 : ins 261 480 = some (.iaload, 1) := by decide +kernel
theorem i_261_481 : ins 261 481 = some (.aload_n 0, 1) := by decide +kernel
theorem i_261_482 : ins 261 482 = some (.iload_n 3, 1) := by decide +kernel
theorem i_261_483 : ins 261 483 = some (.iconst 5, 1) := by decide +kernel
theorem i_261_484 : ins 261 484 = some (.iadd, 1) := by decide +kernel
theorem i_261_485 : ins 261 485 = some (.iaload, 1) := by decide +kernel
theorem i_261_486 : ins 261 486 = some (.aload_n 0, 1) := by decide +kernel
theorem i_261_487 : ins 261 487 = some (.iload_n 3, 1) := by decide +kernel
theorem i_261_488 : ins 261 488 = some (.bipush 6, 2) := by decide +kernel
theorem i_261_490 : ins 261 490 = some (.iadd, 1) := by decide +kernel
theorem i_261_491 : ins 261 491 = some (.iaload, 1) := by decide +kernel
theorem i_261_492 : ins 261 492 = some (.aload_n 0, 1) := by decide +kernel
theorem i_261_493 : ins 261 493 = some (.iload_n 3, 1) := by decide +kernel
theorem i_261_494 : ins 261 494 = some (.bipush 7, 2) := by decide +kernel
theorem i_261_496 : ins 261 496 = some (.iadd, 1) := by decide +kernel
theorem i_261_497 : ins 261 497 = some (.iaload, 1) := by decide +kernel
theorem i_261_498 : ins 261 498 = some (.ifCond .eq 7, 3) := by decide +kernel
theorem t_498_505 : tg 498 (7) = some 505 := by decide +kernel
theorem i_261_501 : ins 261 501 = some (.iconst 1, 1) := by decide +kernel
theorem i_261_502 : ins 261 502 = some (.goto 4, 3) := by decide +kernel
theorem t_502_506 : tg 502 (4) = some 506 := by decide +kernel
theorem i_261_505 : ins 261 505 = some (.iconst 0, 1) := by decide +kernel
theorem v_261_41 : inv 261 41 = some (104, 7, 1, 7340134) := by decide +kernel
theorem i_261_506 : ins 261 506 = some (.invokevirtual 41, 3) := by decide +kernel
theorem i_261_509 : ins 261 509 = some (.if_icmp .eq 1316, 3) := by decide +kernel
theorem t_509_1825 : tg 509 (1316) = some 1825 := by decide +kernel
theorem i_261_512 : ins 261 512 = some (.iconst 0, 1) := by decide +kernel
theorem i_261_513 : ins 261 513 = some (.ireturn, 1) := by decide +kernel
theorem i_261_514 : ins 261 514 = some (.aload_n 1, 1) := by decide +kernel
theorem i_261_515 : ins 261 515 = some (.aload_n 0, 1) := by decide +kernel
theorem i_261_516 : ins 261 516 = some (.iload_n 3, 1) := by decide +kernel
theorem i_261_517 : ins 261 517 = some (.iconst 1, 1) := by decide +kernel
theorem i_261_518 : ins 261 518 = some (.iadd, 1) := by decide +kernel
theorem i_261_519 : ins 261 519 = some (.iaload, 1) := by decide +kernel
theorem v_261_42 : inv 261 42 = some (13, 1, 1, 1048582) := by decide +kernel
theorem i_261_520 : ins 261 520 = some (.invokevirtual 42, 3) := by decide +kernel
theorem i_261_523 : ins 261 523 = some (.aload_n 2, 1) := by decide +kernel
theorem i_261_524 : ins 261 524 = some (.aload_n 0, 1) := by decide +kernel
theorem i_261_525 : ins 261 525 = some (.iload_n 3, 1) := by decide +kernel
theorem i_261_526 : ins 261 526 = some (.iconst 1, 1) := by decide +kernel
theorem i_261_527 : ins 261 527 = some (.iadd, 1) := by decide +kernel
theorem i_261_528 : ins 261 528 = some (.iaload, 1) := by decide +kernel
theorem v_261_45 : inv 261 45 = some (105, 1, 1, 7340134) := by decide +kernel
theorem i_261_529 : ins 261 529 = some (.invokevirtual 45, 3) := by decide +kernel
theorem i_261_532 : ins 261 532 = some (.if_icmp .eq 1293, 3) := by decide +kernel
theorem t_532_1825 : tg 532 (1293) = some 1825 := by decide +kernel
theorem i_261_535 : ins 261 535 = some (.iconst 0, 1) := by decide +kernel
theorem i_261_536 : ins 261 536 = some (.ireturn, 1) := by decide +kernel
theorem i_261_537 : ins 261 537 = some (.aload_n 1, 1) := by decide +kernel
theorem i_261_538 : ins 261 538 = some (.aload_n 0, 1) := by decide +kernel
theorem i_261_539 : ins 261 539 = some (.iload_n 3, 1) := by decide +kernel
theorem i_261_540 : ins 261 540 = some (.iconst 1, 1) := by decide +kernel
theorem i_261_541 : ins 261 541 = some (.iadd, 1) := by decide +kernel
theorem i_261_542 : ins 261 542 = some (.iaload, 1) := by decide +kernel
theorem i_261_543 : ins 261 543 = some (.aload_n 0, 1) := by decide +kernel
theorem i_261_544 : ins 261 544 = some (.iload_n 3, 1) := by decide +kernel
theorem i_261_545 : ins 261 545 = some (.iconst 2, 1) := by decide +kernel
theorem i_261_546 : ins 261 546 = some (.iadd, 1) := by decide +kernel
theorem i_261_547 : ins 261 547 = some (.iaload, 1) := by decide +kernel
theorem i_261_548 : ins 261 548 = some (.aload_n 0, 1) := by decide +kernel
theorem i_261_549 : ins 261 549 = some (.iload_n 3, 1) := by decide +kernel
theorem i_261_550 : ins 261 550 = some (.iconst 3, 1) := by decide +kernel
theorem i_261_551 : ins 261 551 = some (.iadd, 1) := by decide +kernel
theorem i_261_552 : ins 261 552 = some (.iaload, 1) := by decide +kernel
theorem i_261_553 : ins 261 553 = some (.aload_n 0, 1) := by decide +kernel
theorem i_261_554 : ins 261 554 = some (.iload_n 3, 1) := by decide +kernel
theorem i_261_555 : ins 261 555 = some (.iconst 4, 1) := by decide +kernel
theorem i_261_556 : ins 261 556 = some (.iadd, 1) := by decide +kernel
theorem i_261_557 : ins 261 557 = some (.iaload, 1) := by decide +kernel
theorem i_261_558 : ins 261 558 = some (.ifCond .eq 7, 3) := by decide +kernel
theorem t_558_565 : tg 558 (7) = some 565 := by decide +kernel
theorem i_261_561 : ins 261 561 = some (.iconst 1, 1) := by decide +kernel
theorem i_261_562 : ins 261 562 = some (.goto 4, 3) := by decide +kernel
theorem t_562_566 : tg 562 (4) = some 566 := by decide +kernel
theorem i_261_565 : ins 261 565 = some (.iconst 0, 1) := by decide +kernel
theorem v_261_46 : inv 261 46 = some (15, 4, 1, 1048582) := by decide +kernel
theorem i_261_566 : ins 261 566 = some (.invokevirtual 46, 3) := by decide +kernel
theorem i_261_569 : ins 261 569 = some (.aload_n 2, 1) := by decide +kernel
theorem i_261_570 : ins 261 570 = some (.aload_n 0, 1) := by decide +kernel
theorem i_261_571 : ins 261 571 = some (.iload_n 3, 1) := by decide +kernel
theorem i_261_572 : ins 261 572 = some (.iconst 1, 1) := by decide +kernel
theorem i_261_573 : ins 261 573 = some (.iadd, 1) := by decide +kernel
theorem i_261_574 : ins 261 574 = some (.iaload, 1) := by decide +kernel
theorem i_261_575 : ins 261 575 = some (.aload_n 0, 1) := by decide +kernel
theorem i_261_576 : ins 261 576 = some (.iload_n 3, 1) := by decide +kernel
theorem i_261_577 : ins 261 577 = some (.iconst 2, 1) := by decide +kernel
theorem i_261_578 : ins 261 578 = some (.iadd, 1) := by decide +kernel
theorem i_261_579 : ins 261 579 = some (.iaload, 1) := by decide +kernel
theorem i_261_580 : ins 261 580 = some (.aload_n 0, 1) := by decide +kernel
theorem i_261_581 : ins 261 581 = some (.iload_n 3, 1) := by decide +kernel
theorem i_261_582 : ins 261 582 = some (.iconst 3, 1) := by decide +kernel
theorem i_261_583 : ins 261 583 = some (.iadd, 1) := by decide +kernel
theorem i_261_584 : ins 261 584 = some (.iaload, 1) := by decide +kernel
theorem i_261_585 : ins 261 585 = some (.aload_n 0, 1) := by decide +kernel
theorem i_261_586 : ins 261 586 = some (.iload_n 3, 1) := by decide +kernel
theorem i_261_587 : ins 261 587 = some (.iconst 4, 1) := by decide +kernel
theorem i_261_588 : ins 261 588 = some (.iadd, 1) := by decide +kernel
theorem i_261_589 : ins 261 589 = some (.iaload, 1) := by decide +kernel
theorem i_261_590 : ins 261 590 = some (.ifCond .eq 7, 3) := by decide +kernel
theorem t_590_597 : tg 590 (7) = some 597 := by decide +kernel
theorem i_261_593 : ins 261 593 = some (.iconst 1, 1) := by decide +kernel
theorem i_261_594 : ins 261 594 = some (.goto 4, 3) := by decide +kernel
theorem t_594_598 : tg 594 (4) = some 598 := by decide +kernel
theorem i_261_597 : ins 261 597 = some (.iconst 0, 1) := by decide +kernel
theorem v_261_50 : inv 261 50 = some (107, 4, 1, 7340134) := by decide +kernel
theorem i_261_598 : ins 261 598 = some (.invokevirtual 50, 3) := by decide +kernel
theorem i_261_601 : ins 261 601 = some (.if_icmp .eq 1224, 3) := by decide +kernel
theorem t_601_1825 : tg 601 (1224) = some 1825 := by decide +kernel
theorem i_261_604 : ins 261 604 = some (.iconst 0, 1) := by decide +kernel
theorem i_261_605 : ins 261 605 = some (.ireturn, 1) := by decide +kernel
theorem i_261_606 : ins 261 606 = some (.aload_n 1, 1) := by decide +kernel
theorem i_261_607 : ins 261 607 = some (.aload_n 0, 1) := by decide +kernel
theorem i_261_608 : ins 261 608 = some (.iload_n 3, 1) := by decide +kernel
theorem i_261_609 : ins 261 609 = some (.iconst 1, 1) := by decide +kernel
theorem i_261_610 : ins 261 610 = some (.iadd, 1) := by decide +kernel
theorem i_261_611 : ins 261 611 = some (.iaload, 1) := by decide +kernel
theorem i_261_612 : ins 261 612 = some (.aload_n 0, 1) := by decide +kernel
theorem i_261_613 : ins 261 613 = some (.iload_n 3, 1) := by decide +kernel
theorem i_261_614 : ins 261 614 = some (.iconst 2, 1) := by decide +kernel
theorem i_261_615 : ins 261 615 = some (.iadd, 1) := by decide +kernel
theorem i_261_616 : ins 261 616 = some (.iaload, 1) := by decide +kernel
theorem i_261_617 : ins 261 617 = some (.aload_n 0, 1) := by decide +kernel
theorem i_261_618 : ins 261 618 = some (.iload_n 3, 1) := by decide +kernel
theorem i_261_619 : ins 261 619 = some (.iconst 3, 1) := by decide +kernel
theorem i_261_620 : ins 261 620 = some (.iadd, 1) := by decide +kernel
theorem i_261_621 : ins 261 621 = some (.iaload, 1) := by decide +kernel
theorem v_261_51 : inv 261 51 = some (23, 3, 1, 1048582) := by decide +kernel
theorem i_261_622 : ins 261 622 = some (.invokevirtual 51, 3) := by decide +kernel
theorem i_261_625 : ins 261 625 = some (.aload_n 2, 1) := by decide +kernel
theorem i_261_626 : ins 261 626 = some (.aload_n 0, 1) := by decide +kernel
theorem i_261_627 : ins 261 627 = some (.iload_n 3, 1) := by decide +kernel
theorem i_261_628 : ins 261 628 = some (.iconst 1, 1) := by decide +kernel
theorem i_261_629 : ins 261 629 = some (.iadd, 1) := by decide +kernel
theorem i_261_630 : ins 261 630 = some (.iaload, 1) := by decide +kernel
theorem i_261_631 : ins 261 631 = some (.aload_n 0, 1) := by decide +kernel
theorem i_261_632 : ins 261 632 = some (.iload_n 3, 1) := by decide +kernel
theorem i_261_633 : ins 261 633 = some (.iconst 2, 1) := by decide +kernel
theorem i_261_634 : ins 261 634 = some (.iadd, 1) := by decide +kernel
theorem i_261_635 : ins 261 635 = some (.iaload, 1) := by decide +kernel
theorem i_261_636 : ins 261 636 = some (.aload_n 0, 1) := by decide +kernel
theorem i_261_637 : ins 261 637 = some (.iload_n 3, 1) := by decide +kernel
theorem i_261_638 : ins 261 638 = some (.iconst 3, 1) := by decide +kernel
theorem i_261_639 : ins 261 639 = some (.iadd, 1) := by decide +kernel
theorem i_261_640 : ins 261 640 = some (.iaload, 1) := by decide +kernel
theorem v_261_54 : inv 261 54 = some (142, 3, 1, 7340134) := by decide +kernel
theorem i_261_641 : ins 261 641 = some (.invokevirtual 54, 3) := by decide +kernel
theorem i_261_644 : ins 261 644 = some (.if_icmp .eq 1181, 3) := by decide +kernel
theorem t_644_1825 : tg 644 (1181) = some 1825 := by decide +kernel
theorem i_261_647 : ins 261 647 = some (.iconst 0, 1) := by decide +kernel
theorem i_261_648 : ins 261 648 = some (.ireturn, 1) := by decide +kernel
theorem i_261_649 : ins 261 649 = some (.aload_n 1, 1) := by decide +kernel
theorem i_261_650 : ins 261 650 = some (.aload_n 0, 1) := by decide +kernel
theorem i_261_651 : ins 261 651 = some (.iload_n 3, 1) := by decide +kernel
theorem i_261_652 : ins 261 652 = some (.iconst 1, 1) := by decide +kernel
theorem i_261_653 : ins 261 653 = some (.iadd, 1) := by decide +kernel
theorem i_261_654 : ins 261 654 = some (.iaload, 1) := by decide +kernel
theorem i_261_655 : ins 261 655 = some (.aload_n 0, 1) := by decide +kernel
theorem i_261_656 : ins 261 656 = some (.iload_n 3, 1) := by decide +kernel
theorem i_261_657 : ins 261 657 = some (.iconst 2, 1) := by decide +kernel
theorem i_261_658 : ins 261 658 = some (.iadd, 1) := by decide +kernel
theorem i_261_659 : ins 261 659 = some (.iaload, 1) := by decide +kernel
theorem i_261_660 : ins 261 660 = some (.aload_n 0, 1) := by decide +kernel
theorem i_261_661 : ins 261 661 = some (.iload_n 3, 1) := by decide +kernel
theorem i_261_662 : ins 261 662 = some (.iconst 3, 1) := by decide +kernel
theorem i_261_663 : ins 261 663 = some (.iadd, 1) := by decide +kernel
theorem i_261_664 : ins 261 664 = some (.iaload, 1) := by decide +kernel
theorem i_261_665 : ins 261 665 = some (.aload_n 0, 1) := by decide +kernel
theorem i_261_666 : ins 261 666 = some (.iload_n 3, 1) := by decide +kernel
theorem i_261_667 : ins 261 667 = some (.iconst 4, 1) := by decide +kernel
theorem i_261_668 : ins 261 668 = some (.iadd, 1) := by decide +kernel
theorem i_261_669 : ins 261 669 = some (.iaload, 1) := by decide +kernel
theorem i_261_670 : ins 261 670 = some (.aload_n 0, 1) := by decide +kernel
theorem i_261_671 : ins 261 671 = some (.iload_n 3, 1) := by decide +kernel
theorem i_261_672 : ins 261 672 = some (.iconst 5, 1) := by decide +kernel
theorem i_261_673 : ins 261 673 = some (.iadd, 1) := by decide +kernel
theorem i_261_674 : ins 261 674 = some (.iaload, 1) := by decide +kernel
theorem v_261_55 : inv 261 55 = some (16, 5, 1, 1048582) := by decide +kernel
theorem i_261_675 : ins 261 675 = some (.invokevirtual 55, 3) := by decide +kernel
theorem i_261_678 : ins 261 678 = some (.aload_n 2, 1) := by decide +kernel
theorem i_261_679 : ins 261 679 = some (.aload_n 0, 1) := by decide +kernel
theorem i_261_680 : ins 261 680 = some (.iload_n 3, 1) := by decide +kernel
theorem i_261_681 : ins 261 681 = some (.iconst 1, 1) := by decide +kernel
theorem i_261_682 : ins 261 682 = some (.iadd, 1) := by decide +kernel
theorem i_261_683 : ins 261 683 = some (.iaload, 1) := by decide +kernel
theorem i_261_684 : ins 261 684 = some (.aload_n 0, 1) := by decide +kernel
theorem i_261_685 : ins 261 685 = some (.iload_n 3, 1) := by decide +kernel
theorem i_261_686 : ins 261 686 = some (.iconst 2, 1) := by decide +kernel
theorem i_261_687 : ins 261 687 = some (.iadd, 1) := by decide +kernel
theorem i_261_688 : ins 261 688 = some (.iaload, 1) := by decide +kernel
theorem i_261_689 : ins 261 689 = some (.aload_n 0, 1) := by decide +kernel
theorem i_261_690 : ins 261 690 = some (.iload_n 3, 1) := by decide +kernel
theorem i_261_691 : ins 261 691 = some (.iconst 3, 1) := by decide +kernel
theorem i_261_692 : ins 261 692 = some (.iadd, 1) := by decide +kernel
theorem i_261_693 : ins 261 693 = some (.iaload, 1) := by decide +kernel
theorem i_261_694 : ins 261 694 = some (.aload_n 0, 1) := by decide +kernel
theorem i_261_695 : ins 261 695 = some (.iload_n 3, 1) := by decide +kernel
theorem i_261_696 : ins 261 696 = some (.iconst 4, 1) := by decide +kernel
theorem i_261_697 : ins 261 697 = some (.iadd, 1) := by decide +kernel
theorem i_261_698 : ins 261 698 = some (.iaload, 1) := by decide +kernel
theorem i_261_699 : ins 261 699 = some (.aload_n 0, 1) := by decide +kernel
theorem i_261_700 : ins 261 700 = some (.iload_n 3, 1) := by decide +kernel
theorem i_261_701 : ins 261 701 = some (.iconst 5, 1) := by decide +kernel
theorem i_261_702 : ins 261 702 = some (.iadd, 1) := by decide +kernel
theorem i_261_703 : ins 261 703 = some (.iaload, 1) := by decide +kernel
theorem v_261_59 : inv 261 59 = some (108, 5, 1, 7340134) := by decide +kernel
theorem i_261_704 : ins 261 704 = some (.invokevirtual 59, 3) := by decide +kernel
theorem i_261_707 : ins 261 707 = some (.if_icmp .eq 1118, 3) := by decide +kernel
theorem t_707_1825 : tg 707 (1118) = some 1825 := by decide +kernel
theorem i_261_710 : ins 261 710 = some (.iconst 0, 1) := by decide +kernel
theorem i_261_711 : ins 261 711 = some (.ireturn, 1) := by decide +kernel
theorem i_261_712 : ins 261 712 = some (.aload_n 1, 1) := by decide +kernel
theorem i_261_713 : ins 261 713 = some (.aload_n 0, 1) := by decide +kernel
theorem i_261_714 : ins 261 714 = some (.iload_n 3, 1) := by decide +kernel
theorem i_261_715 : ins 261 715 = some (.iconst 1, 1) := by decide +kernel
theorem i_261_716 : ins 261 716 = some (.iadd, 1) := by decide +kernel
theorem i_261_717 : ins 261 717 = some (.iaload, 1) := by decide +kernel
theorem v_261_60 : inv 261 60 = some (18, 1, 1, 1048582) := by decide +kernel
theorem i_261_718 : ins 261 718 = some (.invokevirtual 60, 3) := by decide +kernel
theorem i_261_721 : ins 261 721 = some (.aload_n 2, 1) := by decide +kernel
theorem i_261_722 : ins 261 722 = some (.aload_n 0, 1) := by decide +kernel
theorem i_261_723 : ins 261 723 = some (.iload_n 3, 1) := by decide +kernel
theorem i_261_724 : ins 261 724 = some (.iconst 1, 1) := by decide +kernel
theorem i_261_725 : ins 261 725 = some (.iadd, 1) := by decide +kernel
theorem i_261_726 : ins 261 726 = some (.iaload, 1) := by decide +kernel
theorem v_261_63 : inv 261 63 = some (110, 1, 1, 7340134) := by decide +kernel
theorem i_261_727 : ins 261 727 = some (.invokevirtual 63, 3) := by decide +kernel
theorem i_261_730 : ins 261 730 = some (.if_icmp .eq 1095, 3) := by decide +kernel
theorem t_730_1825 : tg 730 (1095) = some 1825 := by decide +kernel
theorem i_261_733 : ins 261 733 = some (.iconst 0, 1) := by decide +kernel
theorem i_261_734 : ins 261 734 = some (.ireturn, 1) := by decide +kernel
theorem i_261_735 : ins 261 735 = some (.aload_n 1, 1) := by decide +kernel
theorem i_261_736 : ins 261 736 = some (.aload_n 0, 1) := by decide +kernel
theorem i_261_737 : ins 261 737 = some (.iload_n 3, 1) := by decide +kernel
theorem i_261_738 : ins 261 738 = some (.iconst 1, 1) := by decide +kernel
theorem i_261_739 : ins 261 739 = some (.iadd, 1) := by decide +kernel
theorem i_261_740 : ins 261 740 = some (.iaload, 1) := by decide +kernel
theorem v_261_64 : inv 261 64 = some (19, 1, 1, 1048582) := by decide +kernel
theorem i_261_741 : ins 261 741 = some (.invokevirtual 64, 3) := by decide +kernel
theorem i_261_744 : ins 261 744 = some (.aload_n 2, 1) := by decide +kernel
theorem i_261_745 : ins 261 745 = some (.aload_n 0, 1) := by decide +kernel
theorem i_261_746 : ins 261 746 = some (.iload_n 3, 1) := by decide +kernel
theorem i_261_747 : ins 261 747 = some (.iconst 1, 1) := by decide +kernel
theorem i_261_748 : ins 261 748 = some (.iadd, 1) := by decide +kernel
theorem i_261_749 : ins 261 749 = some (.iaload, 1) := by decide +kernel
theorem v_261_67 : inv 261 67 = some (111, 1, 1, 7340134) := by decide +kernel
theorem i_261_750 : ins 261 750 = some (.invokevirtual 67, 3) := by decide +kernel
theorem i_261_753 : ins 261 753 = some (.if_icmp .eq 1072, 3) := by decide +kernel
theorem t_753_1825 : tg 753 (1072) = some 1825 := by decide +kernel
theorem i_261_756 : ins 261 756 = some (.iconst 0, 1) := by decide +kernel
theorem i_261_757 : ins 261 757 = some (.ireturn, 1) := by decide +kernel
theorem i_261_758 : ins 261 758 = some (.aload_n 1, 1) := by decide +kernel
theorem i_261_759 : ins 261 759 = some (.aload_n 0, 1) := by decide +kernel
theorem i_261_760 : ins 261 760 = some (.iload_n 3, 1) := by decide +kernel
theorem i_261_761 : ins 261 761 = some (.iconst 1, 1) := by decide +kernel
theorem i_261_762 : ins 261 762 = some (.iadd, 1) := by decide +kernel
theorem i_261_763 : ins 261 763 = some (.iaload, 1) := by decide +kernel
theorem i_261_764 : ins 261 764 = some (.aload_n 0, 1) := by decide +kernel
theorem i_261_765 : ins 261 765 = some (.iload_n 3, 1) := by decide +kernel
theorem i_261_766 : ins 261 766 = some (.iconst 2, 1) := by decide +kernel
theorem i_261_767 : ins 261 767 = some (.iadd, 1) := by decide +kernel
theorem i_261_768 : ins 261 768 = some (.iaload, 1) := by decide +kernel
theorem v_261_68 : inv 261 68 = some (20, 2, 1, 1048582) := by decide +kernel
theorem i_261_769 : ins 261 769 = some (.invokevirtual 68, 3) := by decide +kernel
theorem i_261_772 : ins 261 772 = some (.aload_n 2, 1) := by decide +kernel
theorem i_261_773 : ins 261 773 = some (.aload_n 0, 1) := by decide +kernel
theorem i_261_774 : ins 261 774 = some (.iload_n 3, 1) := by decide +kernel
theorem i_261_775 : ins 261 775 = some (.iconst 1, 1) := by decide +kernel
theorem i_261_776 : ins 261 776 = some (.iadd, 1) := by decide +kernel
theorem i_261_777 : ins 261 777 = some (.iaload, 1) := by decide +kernel
theorem i_261_778 : ins 261 778 = some (.aload_n 0, 1) := by decide +kernel
theorem i_261_779 : ins 261 779 = some (.iload_n 3, 1) := by decide +kernel
theorem i_261_780 : ins 261 780 = some (.iconst 2, 1) := by decide +kernel
theorem i_261_781 : ins 261 781 = some (.iadd, 1) := by decide +kernel
theorem i_261_782 : ins 261 782 = some (.iaload, 1) := by decide +kernel
theorem v_261_72 : inv 261 72 = some (138, 2, 1, 7340134) := by decide +kernel
theorem i_261_783 : ins 261 783 = some (.invokevirtual 72, 3) := by decide +kernel
theorem i_261_786 : ins 261 786 = some (.if_icmp .eq 1039, 3) := by decide +kernel
theorem t_786_1825 : tg 786 (1039) = some 1825 := by decide +kernel
theorem i_261_789 : ins 261 789 = some (.iconst 0, 1) := by decide +kernel
theorem i_261_790 : ins 261 790 = some (.ireturn, 1) := by decide +kernel
theorem i_261_791 : ins 261 791 = some (.aload_n 1, 1) := by decide +kernel
theorem i_261_792 : ins 261 792 = some (.aload_n 0, 1) := by decide +kernel
theorem i_261_793 : ins 261 793 = some (.iload_n 3, 1) := by decide +kernel
theorem i_261_794 : ins 261 794 = some (.iconst 1, 1) := by decide +kernel
theorem i_261_795 : ins 261 795 = some (.iadd, 1) := by decide +kernel
theorem i_261_796 : ins 261 796 = some (.iaload, 1) := by decide +kernel
theorem i_261_797 : ins 261 797 = some (.aload_n 0, 1) := by decide +kernel
theorem i_261_798 : ins 261 798 = some (.iload_n 3, 1) := by decide +kernel
theorem i_261_799 : ins 261 799 = some (.iconst 2, 1) := by decide +kernel
theorem i_261_800 : ins 261 800 = some (.iadd, 1) := by decide +kernel
theorem i_261_801 : ins 261 801 = some (.iaload, 1) := by decide +kernel
theorem i_261_802 : ins 261 802 = some (.aload_n 0, 1) := by decide +kernel
theorem i_261_803 : ins 261 803 = some (.iload_n 3, 1) := by decide +kernel
theorem i_261_804 : ins 261 804 = some (.iconst 3, 1) := by decide +kernel
theorem i_261_805 : ins 261 805 = some (.iadd, 1) := by decide +kernel
theorem i_261_806 : ins 261 806 = some (.iaload, 1) := by decide +kernel
theorem i_261_807 : ins 261 807 = some (.aload_n 0, 1) := by decide +kernel
theorem i_261_808 : ins 261 808 = some (.iload_n 3, 1) := by decide +kernel
theorem i_261_809 : ins 261 809 = some (.iconst 4, 1) := by decide +kernel
theorem i_261_810 : ins 261 810 = some (.iadd, 1) := by decide +kernel
theorem i_261_811 : ins 261 811 = some (.iaload, 1) := by decide +kernel
theorem v_261_73 : inv 261 73 = some (26, 4, 1, 1048582) := by decide +kernel
theorem i_261_812 : ins 261 812 = some (.invokevirtual 73, 3) := by decide +kernel
theorem i_261_815 : ins 261 815 = some (.aload_n 2, 1) := by decide +kernel
theorem i_261_816 : ins 261 816 = some (.aload_n 0, 1) := by decide +kernel
theorem i_261_817 : ins 261 817 = some (.iload_n 3, 1) := by decide +kernel
theorem i_261_818 : ins 261 818 = some (.iconst 1, 1) := by decide +kernel
theorem i_261_819 : ins 261 819 = some (.iadd, 1) := by decide +kernel
theorem i_261_820 : ins 261 820 = some (.iaload, 1) := by decide +kernel
theorem i_261_821 : ins 261 821 = some (.aload_n 0, 1) := by decide +kernel
theorem i_261_822 : ins 261 822 = some (.iload_n 3, 1) := by decide +kernel
theorem i_261_823 : ins 261 823 = some (.iconst 2, 1) := by decide +kernel
theorem i_261_824 : ins 261 824 = some (.iadd, 1) := by decide +kernel
theorem i_261_825 : ins 261 825 = some (.iaload, 1) := by decide +kernel
theorem i_261_826 : ins 261 826 = some (.aload_n 0, 1) := by decide +kernel
theorem i_261_827 : ins 261 827 = some (.iload_n 3, 1) := by decide +kernel
theorem i_261_828 : ins 261 828 = some (.iconst 3, 1) := by decide +kernel
theorem i_261_829 : ins 261 829 = some (.iadd, 1) := by decide +kernel
theorem i_261_830 : ins 261 830 = some (.iaload, 1) := by decide +kernel
theorem i_261_831 : ins 261 831 = some (.aload_n 0, 1) := by decide +kernel
theorem i_261_832 : ins 261 832 = some (.iload_n 3, 1) := by decide +kernel
theorem i_261_833 : ins 261 833 = some (.iconst 4, 1) := by decide +kernel
theorem i_261_834 : ins 261 834 = some (.iadd, 1) := by decide +kernel
theorem i_261_835 : ins 261 835 = some (.iaload, 1) := by decide +kernel
theorem v_261_76 : inv 261 76 = some (153, 4, 1, 7340134) := by decide +kernel
theorem i_261_836 : ins 261 836 = some (.invokevirtual 76, 3) := by decide +kernel
theorem i_261_839 : ins 261 839 = some (.if_icmp .eq 986, 3) := by decide +kernel
theorem t_839_1825 : tg 839 (986) = some 1825 := by decide +kernel
theorem i_261_842 : ins 261 842 = some (.iconst 0, 1) := by decide +kernel
theorem i_261_843 : ins 261 843 = some (.ireturn, 1) := by decide +kernel
theorem i_261_844 : ins 261 844 = some (.aload_n 1, 1) := by decide +kernel
theorem i_261_845 : ins 261 845 = some (.aload_n 0, 1) := by decide +kernel
theorem i_261_846 : ins 261 846 = some (.iload_n 3, 1) := by decide +kernel
theorem i_261_847 : ins 261 847 = some (.iconst 1, 1) := by decide +kernel
theorem i_261_848 : ins 261 848 = some (.iadd, 1) := by decide +kernel
theorem i_261_849 : ins 261 849 = some (.iaload, 1) := by decide +kernel
theorem v_261_77 : inv 261 77 = some (27, 1, 1, 1048582) := by decide +kernel
theorem i_261_850 : ins 261 850 = some (.invokevirtual 77, 3) := by decide +kernel
theorem i_261_853 : ins 261 853 = some (.aload_n 2, 1) := by decide +kernel
theorem i_261_854 : ins 261 854 = some (.aload_n 0, 1) := by decide +kernel
theorem i_261_855 : ins 261 855 = some (.iload_n 3, 1) := by decide +kernel
theorem i_261_856 : ins 261 856 = some (.iconst 1, 1) := by decide +kernel
theorem i_261_857 : ins 261 857 = some (.iadd, 1) := by decide +kernel
theorem i_261_858 : ins 261 858 = some (.iaload, 1) := by decide +kernel
theorem v_261_80 : inv 261 80 = some (155, 1, 1, 7340134) := by decide +kernel
theorem i_261_859 : ins 261 859 = some (.invokevirtual 80, 3) := by decide +kernel
theorem i_261_862 : ins 261 862 = some (.if_icmp .eq 963, 3) := by decide +kernel
theorem t_862_1825 : tg 862 (963) = some 1825 := by decide +kernel
theorem i_261_865 : ins 261 865 = some (.iconst 0, 1) := by decide +kernel
theorem i_261_866 : ins 261 866 = some (.ireturn, 1) := by decide +kernel
theorem i_261_867 : ins 261 867 = some (.aload_n 1, 1) := by decide +kernel
theorem i_261_868 : ins 261 868 = some (.aload_n 0, 1) := by decide +kernel
theorem i_261_869 : ins 261 869 = some (.iload_n 3, 1) := by decide +kernel
theorem i_261_870 : ins 261 870 = some (.iconst 1, 1) := by decide +kernel
theorem i_261_871 : ins 261 871 = some (.iadd, 1) := by decide +kernel
theorem i_261_872 : ins 261 872 = some (.iaload, 1) := by decide +kernel
theorem i_261_873 : ins 261 873 = some (.aload_n 0, 1) := by decide +kernel
theorem i_261_874 : ins 261 874 = some (.iload_n 3, 1) := by decide +kernel
theorem i_261_875 : ins 261 875 = some (.iconst 2, 1) := by decide +kernel
theorem i_261_876 : ins 261 876 = some (.iadd, 1) := by decide +kernel
theorem i_261_877 : ins 261 877 = some (.iaload, 1) := by decide +kernel
theorem i_261_878 : ins 261 878 = some (.aload_n 0, 1) := by decide +kernel
theorem i_261_879 : ins 261 879 = some (.iload_n 3, 1) := by decide +kernel
theorem i_261_880 : ins 261 880 = some (.iconst 3, 1) := by decide +kernel
theorem i_261_881 : ins 261 881 = some (.iadd, 1) := by decide +kernel
theorem i_261_882 : ins 261 882 = some (.iaload, 1) := by decide +kernel
theorem i_261_883 : ins 261 883 = some (.aload_n 0, 1) := by decide +kernel
theorem i_261_884 : ins 261 884 = some (.iload_n 3, 1) := by decide +kernel
theorem i_261_885 : ins 261 885 = some (.iconst 4, 1) := by decide +kernel
theorem i_261_886 : ins 261 886 = some (.iadd, 1) := by decide +kernel
theorem i_261_887 : ins 261 887 = some (.iaload, 1) := by decide +kernel
theorem i_261_888 : ins 261 888 = some (.aload_n 0, 1) := by decide +kernel
theorem i_261_889 : ins 261 889 = some (.iload_n 3, 1) := by decide +kernel
theorem i_261_890 : ins 261 890 = some (.iconst 5, 1) := by decide +kernel
theorem i_261_891 : ins 261 891 = some (.iadd, 1) := by decide +kernel
theorem i_261_892 : ins 261 892 = some (.iaload, 1) := by decide +kernel
theorem i_261_893 : ins 261 893 = some (.aload_n 0, 1) := by decide +kernel
theorem i_261_894 : ins 261 894 = some (.iload_n 3, 1) := by decide +kernel
theorem i_261_895 : ins 261 895 = some (.bipush 6, 2) := by decide +kernel
theorem i_261_897 : ins 261 897 = some (.iadd, 1) := by decide +kernel
theorem i_261_898 : ins 261 898 = some (.iaload, 1) := by decide +kernel
theorem v_261_81 : inv 261 81 = some (28, 6, 1, 1048582) := by decide +kernel
theorem i_261_899 : ins 261 899 = some (.invokevirtual 81, 3) := by decide +kernel
theorem i_261_902 : ins 261 902 = some (.aload_n 2, 1) := by decide +kernel
theorem i_261_903 : ins 261 903 = some (.aload_n 0, 1) := by decide +kernel
theorem i_261_904 : ins 261 904 = some (.iload_n 3, 1) := by decide +kernel
theorem i_261_905 : ins 261 905 = some (.iconst 1, 1) := by decide +kernel
theorem i_261_906 : ins 261 906 = some (.iadd, 1) := by decide +kernel
theorem i_261_907 : ins 261 907 = some (.iaload, 1) := by decide +kernel
theorem i_261_908 : ins 261 908 = some (.aload_n 0, 1) := by decide +kernel
theorem i_261_909 : ins 261 909 = some (.iload_n 3, 1) := by decide +kernel
theorem i_261_910 : ins 261 910 = some (.iconst 2, 1) := by decide +kernel
theorem i_261_911 : ins 261 911 = some (.iadd, 1) := by decide +kernel
theorem i_261_912 : ins 261 912 = some (.iaload, 1) := by decide +kernel
theorem i_261_913 : ins 261 913 = some (.aload_n 0, 1) := by decide +kernel
theorem i_261_914 : ins 261 914 = some (.iload_n 3, 1) := by decide +kernel
theorem i_261_915 : ins 261 915 = some (.iconst 3, 1) := by decide +kernel
theorem i_261_916 : ins 261 916 = some (.iadd, 1) := by decide +kernel
theorem i_261_917 : ins 261 917 = some (.iaload, 1) := by decide +kernel
theorem i_261_918 : ins 261 918 = some (.aload_n 0, 1) := by decide +kernel
theorem i_261_919 : ins 261 919 = some (.iload_n 3, 1) := by decide +kernel
theorem i_261_920 : ins 261 920 = some (.iconst 4, 1) := by decide +kernel
theorem i_261_921 : ins 261 921 = some (.iadd, 1) := by decide +kernel
theorem i_261_922 : ins 261 922 = some (.iaload, 1) := by decide +kernel
theorem i_261_923 : ins 261 923 = some (.aload_n 0, 1) := by decide +kernel
theorem i_261_924 : ins 261 924 = some (.iload_n 3, 1) := by decide +kernel
theorem i_261_925 : ins 261 925 = some (.iconst 5, 1) := by decide +kernel
theorem i_261_926 : ins 261 926 = some (.iadd, 1) := by decide +kernel
theorem i_261_927 : ins 261 927 = some (.iaload, 1) := by decide +kernel
theorem i_261_928 : ins 261 928 = some (.aload_n 0, 1) := by decide +kernel
theorem i_261_929 : ins 261 929 = some (.iload_n 3, 1) := by decide +kernel
theorem i_261_930 : ins 261 930 = some (.bipush 6, 2) := by decide +kernel
theorem i_261_932 : ins 261 932 = some (.iadd, 1) := by decide +kernel
theorem i_261_933 : ins 261 933 = some (.iaload, 1) := by decide +kernel
theorem v_261_85 : inv 261 85 = some (156, 6, 1, 7340134) := by decide +kernel
theorem i_261_934 : ins 261 934 = some (.invokevirtual 85, 3) := by decide +kernel
theorem t_938_1825 : tg 938 (887) = some 1825 := by decide +kernel
theorem i_261_937 : ins 261 937 = some (.lcmp, 1) := by decide +kernel
theorem i_261_938 : ins 261 938 = some (.ifCond .eq 887, 3) := by decide +kernel
theorem i_261_941 : ins 261 941 = some (.iconst 0, 1) := by decide +kernel
theorem i_261_942 : ins 261 942 = some (.ireturn, 1) := by decide +kernel
theorem i_261_943 : ins 261 943 = some (.aload_n 1, 1) := by decide +kernel
theorem i_261_944 : ins 261 944 = some (.aload_n 0, 1) := by decide +kernel
theorem i_261_945 : ins 261 945 = some (.iload_n 3, 1) := by decide +kernel
theorem i_261_946 : ins 261 946 = some (.iconst 1, 1) := by decide +kernel
theorem i_261_947 : ins 261 947 = some (.iadd, 1) := by decide +kernel
theorem i_261_948 : ins 261 948 = some (.iaload, 1) := by decide +kernel
theorem i_261_949 : ins 261 949 = some (.aload_n 0, 1) := by decide +kernel
theorem i_261_950 : ins 261 950 = some (.iload_n 3, 1) := by decide +kernel
theorem i_261_951 : ins 261 951 = some (.iconst 2, 1) := by decide +kernel
theorem i_261_952 : ins 261 952 = some (.iadd, 1) := by decide +kernel
theorem i_261_953 : ins 261 953 = some (.iaload, 1) := by decide +kernel
theorem i_261_954 : ins 261 954 = some (.aload_n 0, 1) := by decide +kernel
theorem i_261_955 : ins 261 955 = some (.iload_n 3, 1) := by decide +kernel
theorem i_261_956 : ins 261 956 = some (.iconst 3, 1) := by decide +kernel
theorem i_261_957 : ins 261 957 = some (.iadd, 1) := by decide +kernel
theorem i_261_958 : ins 261 958 = some (.iaload, 1) := by decide +kernel
theorem i_261_959 : ins 261 959 = some (.aload_n 0, 1) := by decide +kernel
theorem i_261_960 : ins 261 960 = some (.iload_n 3, 1) := by decide +kernel
theorem i_261_961 : ins 261 961 = some (.iconst 4, 1) := by decide +kernel
theorem i_261_962 : ins 261 962 = some (.iadd, 1) := by decide +kernel
theorem i_261_963 : ins 261 963 = some (.iaload, 1) := by decide +kernel
theorem v_261_86 : inv 261 86 = some (33, 4, 1, 1048582) := by decide +kernel
theorem i_261_964 : ins 261 964 = some (.invokevirtual 86, 3) := by decide +kernel
theorem i_261_967 : ins 261 967 = some (.aload_n 2, 1) := by decide +kernel
theorem i_261_968 : ins 261 968 = some (.aload_n 0, 1) := by decide +kernel
theorem i_261_969 : ins 261 969 = some (.iload_n 3, 1) := by decide +kernel
theorem i_261_970 : ins 261 970 = some (.iconst 1, 1) := by decide +kernel
theorem i_261_971 : ins 261 971 = some (.iadd, 1) := by decide +kernel
theorem i_261_972 : ins 261 972 = some (.iaload, 1) := by decide +kernel
theorem i_261_973 : ins 261 973 = some (.aload_n 0, 1) := by decide +kernel
theorem i_261_974 : ins 261 974 = some (.iload_n 3, 1) := by decide +kernel
theorem i_261_975 : ins 261 975 = some (.iconst 2, 1) := by decide +kernel
theorem i_261_976 : ins 261 976 = some (.iadd, 1) := by decide +kernel
theorem i_261_977 : ins 261 977 = some (.iaload, 1) := by decide +kernel
theorem i_261_978 : ins 261 978 = some (.aload_n 0, 1) := by decide +kernel
theorem i_261_979 : ins 261 979 = some (.iload_n 3, 1) := by decide +kernel
theorem i_261_980 : ins 261 980 = some (.iconst 3, 1) := by decide +kernel
theorem i_261_981 : ins 261 981 = some (.iadd, 1) := by decide +kernel
theorem i_261_982 : ins 261 982 = some (.iaload, 1) := by decide +kernel
theorem i_261_983 : ins 261 983 = some (.aload_n 0, 1) := by decide +kernel
theorem i_261_984 : ins 261 984 = some (.iload_n 3, 1) := by decide +kernel
theorem i_261_985 : ins 261 985 = some (.iconst 4, 1) := by decide +kernel
theorem i_261_986 : ins 261 986 = some (.iadd, 1) := by decide +kernel
theorem i_261_987 : ins 261 987 = some (.iaload, 1) := by decide +kernel
theorem v_261_89 : inv 261 89 = some (160, 4, 1, 7340134) := by decide +kernel
theorem i_261_988 : ins 261 988 = some (.invokevirtual 89, 3) := by decide +kernel
theorem i_261_991 : ins 261 991 = some (.if_icmp .eq 834, 3) := by decide +kernel
theorem t_991_1825 : tg 991 (834) = some 1825 := by decide +kernel
theorem i_261_994 : ins 261 994 = some (.iconst 0, 1) := by decide +kernel
theorem i_261_995 : ins 261 995 = some (.ireturn, 1) := by decide +kernel
theorem i_261_996 : ins 261 996 = some (.aload_n 1, 1) := by decide +kernel
theorem i_261_997 : ins 261 997 = some (.aload_n 0, 1) := by decide +kernel
theorem i_261_998 : ins 261 998 = some (.iload_n 3, 1) := by decide +kernel
theorem i_261_999 : ins 261 999 = some (.iconst 1, 1) := by decide +kernel
theorem i_261_1000 : ins 261 1000 = some (.iadd, 1) := by decide +kernel
theorem i_261_1001 : ins 261 1001 = some (.iaload, 1) := by decide +kernel
theorem i_261_1002 : ins 261 1002 = some (.aload_n 0, 1) := by decide +kernel
theorem i_261_1003 : ins 261 1003 = some (.iload_n 3, 1) := by decide +kernel
theorem i_261_1004 : ins 261 1004 = some (.iconst 2, 1) := by decide +kernel
theorem i_261_1005 : ins 261 1005 = some (.iadd, 1) := by decide +kernel
theorem i_261_1006 : ins 261 1006 = some (.iaload, 1) := by decide +kernel
theorem i_261_1007 : ins 261 1007 = some (.aload_n 0, 1) := by decide +kernel
theorem i_261_1008 : ins 261 1008 = some (.iload_n 3, 1) := by decide +kernel
theorem i_261_1009 : ins 261 1009 = some (.iconst 3, 1) := by decide +kernel
theorem i_261_1010 : ins 261 1010 = some (.iadd, 1) := by decide +kernel
theorem i_261_1011 : ins 261 1011 = some (.iaload, 1) := by decide +kernel
theorem i_261_1012 : ins 261 1012 = some (.aload_n 0, 1) := by decide +kernel
theorem i_261_1013 : ins 261 1013 = some (.iload_n 3, 1) := by decide +kernel
theorem i_261_1014 : ins 261 1014 = some (.iconst 4, 1) := by decide +kernel
theorem i_261_1015 : ins 261 1015 = some (.iadd, 1) := by decide +kernel
theorem i_261_1016 : ins 261 1016 = some (.iaload, 1) := by decide +kernel
theorem i_261_1017 : ins 261 1017 = some (.ifCond .eq 7, 3) := by decide +kernel
theorem t_1017_1024 : tg 1017 (7) = some 1024 := by decide +kernel
theorem i_261_1020 : ins 261 1020 = some (.iconst 1, 1) := by decide +kernel
theorem i_261_1021 : ins 261 1021 = some (.goto 4, 3) := by decide +kernel
theorem t_1021_1025 : tg 1021 (4) = some 1025 := by decide +kernel
theorem i_261_1024 : ins 261 1024 = some (.iconst 0, 1) := by decide +kernel
theorem i_261_1025 : ins 261 1025 = some (.aload_n 0, 1) := by decide +kernel
theorem i_261_1026 : ins 261 1026 = some (.iload_n 3, 1) := by decide +kernel
theorem i_261_1027 : ins 261 1027 = some (.iconst 5, 1) := by decide +kernel
theorem i_261_1028 : ins 261 1028 = some (.iadd, 1) := by decide +kernel
theorem i_261_1029 : ins 261 1029 = some (.iaload, 1) := by decide +kernel
theorem v_261_90 : inv 261 90 = some (34, 5, 1, 1048582) := by decide +kernel
theorem i_261_1030 : ins 261 1030 = some (.invokevirtual 90, 3) := by decide +kernel
theorem i_261_1033 : ins 261 1033 = some (.aload_n 2, 1) := by decide +kernel
theorem i_261_1034 : ins 261 1034 = some (.aload_n 0, 1) := by decide +kernel
theorem i_261_1035 : ins 261 1035 = some (.iload_n 3, 1) := by decide +kernel
theorem i_261_1036 : ins 261 1036 = some (.iconst 1, 1) := by decide +kernel
theorem i_261_1037 : ins 261 1037 = some (.iadd, 1) := by decide +kernel
theorem i_261_1038 : ins 261 1038 = some (.iaload, 1) := by decide +kernel
theorem i_261_1039 : ins 261 1039 = some (.aload_n 0, 1) := by decide +kernel
theorem i_261_1040 : ins 261 1040 = some (.iload_n 3, 1) := by decide +kernel
theorem i_261_1041 : ins 261 1041 = some (.iconst 2, 1) := by decide +kernel
theorem i_261_1042 : ins 261 1042 = some (.iadd, 1) := by decide +kernel
theorem i_261_1043 : ins 261 1043 = some (.iaload, 1) := by decide +kernel
theorem i_261_1044 : ins 261 1044 = some (.aload_n 0, 1) := by decide +kernel
theorem i_261_1045 : ins 261 1045 = some (.iload_n 3, 1) := by decide +kernel
theorem i_261_1046 : ins 261 1046 = some (.iconst 3, 1) := by decide +kernel
theorem i_261_1047 : ins 261 1047 = some (.iadd, 1) := by decide +kernel
theorem i_261_1048 : ins 261 1048 = some (.iaload, 1) := by decide +kernel
theorem i_261_1049 : ins 261 1049 = some (.aload_n 0, 1) := by decide +kernel
theorem i_261_1050 : ins 261 1050 = some (.iload_n 3, 1) := by decide +kernel
theorem i_261_1051 : ins 261 1051 = some (.iconst 4, 1) := by decide +kernel
theorem i_261_1052 : ins 261 1052 = some (.iadd, 1) := by decide +kernel
theorem i_261_1053 : ins 261 1053 = some (.iaload, 1) := by decide +kernel
theorem i_261_1054 : ins 261 1054 = some (.ifCond .eq 7, 3) := by decide +kernel
theorem t_1054_1061 : tg 1054 (7) = some 1061 := by decide +kernel
theorem i_261_1057 : ins 261 1057 = some (.iconst 1, 1) := by decide +kernel
theorem i_261_1058 : ins 261 1058 = some (.goto 4, 3) := by decide +kernel
theorem t_1058_1062 : tg 1058 (4) = some 1062 := by decide +kernel
theorem i_261_1061 : ins 261 1061 = some (.iconst 0, 1) := by decide +kernel
theorem i_261_1062 : ins 261 1062 = some (.aload_n 0, 1) := by decide +kernel
theorem i_261_1063 : ins 261 1063 = some (.iload_n 3, 1) := by decide +kernel
theorem i_261_1064 : ins 261 1064 = some (.iconst 5, 1) := by decide +kernel
theorem i_261_1065 : ins 261 1065 = some (.iadd, 1) := by decide +kernel
theorem i_261_1066 : ins 261 1066 = some (.iaload, 1) := by decide +kernel
theorem v_261_94 : inv 261 94 = some (161, 5, 1, 7340134) := by decide +kernel
theorem i_261_1067 : ins 261 1067 = some (.invokevirtual 94, 3) := by decide +kernel
theorem i_261_1070 : ins 261 1070 = some (.if_icmp .eq 755, 3) := by decide +kernel
theorem t_1070_1825 : tg 1070 (755) = some 1825 := by decide +kernel
theorem i_261_1073 : ins 261 1073 = some (.iconst 0, 1) := by decide +kernel
theorem i_261_1074 : ins 261 1074 = some (.ireturn, 1) := by decide +kernel
theorem i_261_1075 : ins 261 1075 = some (.aload_n 1, 1) := by decide +kernel
theorem i_261_1076 : ins 261 1076 = some (.aload_n 0, 1) := by decide +kernel
theorem i_261_1077 : ins 261 1077 = some (.iload_n 3, 1) := by decide +kernel
theorem i_261_1078 : ins 261 1078 = some (.iconst 1, 1) := by decide +kernel
theorem i_261_1079 : ins 261 1079 = some (.iadd, 1) := by decide +kernel
theorem i_261_1080 : ins 261 1080 = some (.iaload, 1) := by decide +kernel
theorem i_261_1081 : ins 261 1081 = some (.aload_n 0, 1) := by decide +kernel
theorem i_261_1082 : ins 261 1082 = some (.iload_n 3, 1) := by decide +kernel
theorem i_261_1083 : ins 261 1083 = some (.iconst 2, 1) := by decide +kernel
theorem i_261_1084 : ins 261 1084 = some (.iadd, 1) := by decide +kernel
theorem i_261_1085 : ins 261 1085 = some (.iaload, 1) := by decide +kernel
theorem v_261_95 : inv 261 95 = some (35, 2, 1, 1048582) := by decide +kernel
theorem i_261_1086 : ins 261 1086 = some (.invokevirtual 95, 3) := by decide +kernel
theorem i_261_1089 : ins 261 1089 = some (.aload_n 2, 1) := by decide +kernel
theorem i_261_1090 : ins 261 1090 = some (.aload_n 0, 1) := by decide +kernel
theorem i_261_1091 : ins 261 1091 = some (.iload_n 3, 1) := by decide +kernel
theorem i_261_1092 : ins 261 1092 = some (.iconst 1, 1) := by decide +kernel
theorem i_261_1093 : ins 261 1093 = some (.iadd, 1) := by decide +kernel
theorem i_261_1094 : ins 261 1094 = some (.iaload, 1) := by decide +kernel
theorem i_261_1095 : ins 261 1095 = some (.aload_n 0, 1) := by decide +kernel
theorem i_261_1096 : ins 261 1096 = some (.iload_n 3, 1) := by decide +kernel
theorem i_261_1097 : ins 261 1097 = some (.iconst 2, 1) := by decide +kernel
theorem i_261_1098 : ins 261 1098 = some (.iadd, 1) := by decide +kernel
theorem i_261_1099 : ins 261 1099 = some (.iaload, 1) := by decide +kernel
theorem v_261_98 : inv 261 98 = some (165, 2, 1, 7340134) := by decide +kernel
theorem i_261_1100 : ins 261 1100 = some (.invokevirtual 98, 3) := by decide +kernel
theorem i_261_1103 : ins 261 1103 = some (.if_icmp .eq 722, 3) := by decide +kernel
theorem t_1103_1825 : tg 1103 (722) = some 1825 := by decide +kernel
theorem i_261_1106 : ins 261 1106 = some (.iconst 0, 1) := by decide +kernel
theorem i_261_1107 : ins 261 1107 = some (.ireturn, 1) := by decide +kernel
theorem i_261_1108 : ins 261 1108 = some (.aload_n 1, 1) := by decide +kernel
theorem i_261_1109 : ins 261 1109 = some (.aload_n 0, 1) := by decide +kernel
theorem i_261_1110 : ins 261 1110 = some (.iload_n 3, 1) := by decide +kernel
theorem i_261_1111 : ins 261 1111 = some (.iconst 1, 1) := by decide +kernel
theorem i_261_1112 : ins 261 1112 = some (.iadd, 1) := by decide +kernel
theorem i_261_1113 : ins 261 1113 = some (.iaload, 1) := by decide +kernel
theorem v_261_99 : inv 261 99 = some (36, 1, 1, 1048582) := by decide +kernel
theorem i_261_1114 : ins 261 1114 = some (.invokevirtual 99, 3) := by decide +kernel
theorem i_261_1117 : ins 261 1117 = some (.aload_n 2, 1) := by decide +kernel
theorem i_261_1118 : ins 261 1118 = some (.aload_n 0, 1) := by decide +kernel
theorem i_261_1119 : ins 261 1119 = some (.iload_n 3, 1) := by decide +kernel
theorem i_261_1120 : ins 261 1120 = some (.iconst 1, 1) := by decide +kernel
theorem i_261_1121 : ins 261 1121 = some (.iadd, 1) := by decide +kernel
theorem i_261_1122 : ins 261 1122 = some (.iaload, 1) := by decide +kernel
theorem v_261_103 : inv 261 103 = some (166, 1, 1, 7340134) := by decide +kernel
theorem i_261_1123 : ins 261 1123 = some (.invokevirtual 103, 3) := by decide +kernel
theorem t_1127_1825 : tg 1127 (698) = some 1825 := by decide +kernel
theorem i_261_1126 : ins 261 1126 = some (.lcmp, 1) := by decide +kernel
theorem i_261_1127 : ins 261 1127 = some (.ifCond .eq 698, 3) := by decide +kernel
theorem i_261_1130 : ins 261 1130 = some (.iconst 0, 1) := by decide +kernel
theorem i_261_1131 : ins 261 1131 = some (.ireturn, 1) := by decide +kernel
theorem i_261_1132 : ins 261 1132 = some (.aload_n 1, 1) := by decide +kernel
theorem i_261_1133 : ins 261 1133 = some (.aload_n 0, 1) := by decide +kernel
theorem i_261_1134 : ins 261 1134 = some (.iload_n 3, 1) := by decide +kernel
theorem i_261_1135 : ins 261 1135 = some (.iconst 1, 1) := by decide +kernel
theorem i_261_1136 : ins 261 1136 = some (.iadd, 1) := by decide +kernel
theorem i_261_1137 : ins 261 1137 = some (.iaload, 1) := by decide +kernel
theorem i_261_1138 : ins 261 1138 = some (.aload_n 0, 1) := by decide +kernel
theorem i_261_1139 : ins 261 1139 = some (.iload_n 3, 1) := by decide +kernel
theorem i_261_1140 : ins 261 1140 = some (.iconst 2, 1) := by decide +kernel
theorem i_261_1141 : ins 261 1141 = some (.iadd, 1) := by decide +kernel
theorem i_261_1142 : ins 261 1142 = some (.iaload, 1) := by decide +kernel
theorem i_261_1143 : ins 261 1143 = some (.ifCond .eq 7, 3) := by decide +kernel
theorem t_1143_1150 : tg 1143 (7) = some 1150 := by decide +kernel
theorem i_261_1146 : ins 261 1146 = some (.iconst 1, 1) := by decide +kernel
theorem i_261_1147 : ins 261 1147 = some (.goto 4, 3) := by decide +kernel
theorem t_1147_1151 : tg 1147 (4) = some 1151 := by decide +kernel
theorem i_261_1150 : ins 261 1150 = some (.iconst 0, 1) := by decide +kernel
theorem i_261_1151 : ins 261 1151 = some (.aload_n 0, 1) := by decide +kernel
theorem i_261_1152 : ins 261 1152 = some (.iload_n 3, 1) := by decide +kernel
theorem i_261_1153 : ins 261 1153 = some (.iconst 3, 1) := by decide +kernel
theorem i_261_1154 : ins 261 1154 = some (.iadd, 1) := by decide +kernel
theorem i_261_1155 : ins 261 1155 = some (.iaload, 1) := by decide +kernel
theorem i_261_1156 : ins 261 1156 = some (.aload_n 0, 1) := by decide +kernel
theorem i_261_1157 : ins 261 1157 = some (.iload_n 3, 1) := by decide +kernel
theorem i_261_1158 : ins 261 1158 = some (.iconst 4, 1) := by decide +kernel
theorem i_261_1159 : ins 261 1159 = some (.iadd, 1) := by decide +kernel
theorem i_261_1160 : ins 261 1160 = some (.iaload, 1) := by decide +kernel
theorem i_261_1161 : ins 261 1161 = some (.aload_n 0, 1) := by decide +kernel
theorem i_261_1162 : ins 261 1162 = some (.iload_n 3, 1) := by decide +kernel
theorem i_261_1163 : ins 261 1163 = some (.iconst 5, 1) := by decide +kernel
theorem i_261_1164 : ins 261 1164 = some (.iadd, 1) := by decide +kernel
theorem i_261_1165 : ins 261 1165 = some (.iaload, 1) := by decide +kernel
theorem i_261_1166 : ins 261 1166 = some (.aload_n 0, 1) := by decide +kernel
theorem i_261_1167 : ins 261 1167 = some (.iload_n 3, 1) := by decide +kernel
theorem i_261_1168 : ins 261 1168 = some (.bipush 6, 2) := by decide +kernel
theorem i_261_1170 : ins 261 1170 = some (.iadd, 1) := by decide +kernel
theorem i_261_1171 : ins 261 1171 = some (.iaload, 1) := by decide +kernel
theorem v_261_104 : inv 261 104 = some (37, 6, 1, 1048582) := by decide +kernel
theorem i_261_1172 : ins 261 1172 = some (.invokevirtual 104, 3) := by decide +kernel
theorem i_261_1175 : ins 261 1175 = some (.aload_n 2, 1) := by decide +kernel
theorem i_261_1176 : ins 261 1176 = some (.aload_n 0, 1) := by decide +kernel
theorem i_261_1177 : ins 261 1177 = some (.iload_n 3, 1) := by decide +kernel
theorem i_261_1178 : ins 261 1178 = some (.iconst 1, 1) := by decide +kernel
theorem i_261_1179 : ins 261 1179 = some (.iadd, 1) := by decide +kernel
theorem i_261_1180 : ins 261 1180 = some (.iaload, 1) := by decide +kernel
theorem i_261_1181 : ins 261 1181 = some (.aload_n 0, 1) := by decide +kernel
theorem i_261_1182 : ins 261 1182 = some (.iload_n 3, 1) := by decide +kernel
theorem i_261_1183 : ins 261 1183 = some (.iconst 2, 1) := by decide +kernel
theorem i_261_1184 : ins 261 1184 = some (.iadd, 1) := by decide +kernel
theorem i_261_1185 : ins 261 1185 = some (.iaload, 1) := by decide +kernel
theorem i_261_1186 : ins 261 1186 = some (.ifCond .eq 7, 3) := by decide +kernel
theorem t_1186_1193 : tg 1186 (7) = some 1193 := by decide +kernel
theorem i_261_1189 : ins 261 1189 = some (.iconst 1, 1) := by decide +kernel
theorem i_261_1190 : ins 261 1190 = some (.goto 4, 3) := by decide +kernel
theorem t_1190_1194 : tg 1190 (4) = some 1194 := by decide +kernel
theorem i_261_1193 : ins 261 1193 = some (.iconst 0, 1) := by decide +kernel
theorem i_261_1194 : ins 261 1194 = some (.aload_n 0, 1) := by decide +kernel
theorem i_261_1195 : ins 261 1195 = some (.iload_n 3, 1) := by decide +kernel
theorem i_261_1196 : ins 261 1196 = some (.iconst 3, 1) := by decide +kernel
theorem i_261_1197 : ins 261 1197 = some (.iadd, 1) := by decide +kernel
theorem i_261_1198 : ins 261 1198 = some (.iaload, 1) := by decide +kernel
theorem i_261_1199 : ins 261 1199 = some (.aload_n 0, 1) := by decide +kernel
theorem i_261_1200 : ins 261 1200 = some (.iload_n 3, 1) := by decide +kernel
theorem i_261_1201 : ins 261 1201 = some (.iconst 4, 1) := by decide +kernel
theorem i_261_1202 : ins 261 1202 = some (.iadd, 1) := by decide +kernel
theorem i_261_1203 : ins 261 1203 = some (.iaload, 1) := by decide +kernel
theorem i_261_1204 : ins 261 1204 = some (.aload_n 0, 1) := by decide +kernel
theorem i_261_1205 : ins 261 1205 = some (.iload_n 3, 1) := by decide +kernel
theorem i_261_1206 : ins 261 1206 = some (.iconst 5, 1) := by decide +kernel
theorem i_261_1207 : ins 261 1207 = some (.iadd, 1) := by decide +kernel
theorem i_261_1208 : ins 261 1208 = some (.iaload, 1) := by decide +kernel
theorem i_261_1209 : ins 261 1209 = some (.aload_n 0, 1) := by decide +kernel
theorem i_261_1210 : ins 261 1210 = some (.iload_n 3, 1) := by decide +kernel
theorem i_261_1211 : ins 261 1211 = some (.bipush 6, 2) := by decide +kernel
theorem i_261_1213 : ins 261 1213 = some (.iadd, 1) := by decide +kernel
theorem i_261_1214 : ins 261 1214 = some (.iaload, 1) := by decide +kernel
theorem v_261_108 : inv 261 108 = some (167, 6, 1, 7340134) := by decide +kernel
theorem i_261_1215 : ins 261 1215 = some (.invokevirtual 108, 3) := by decide +kernel
theorem i_261_1218 : ins 261 1218 = some (.if_icmp .eq 607, 3) := by decide +kernel
theorem t_1218_1825 : tg 1218 (607) = some 1825 := by decide +kernel
theorem i_261_1221 : ins 261 1221 = some (.iconst 0, 1) := by decide +kernel
theorem i_261_1222 : ins 261 1222 = some (.ireturn, 1) := by decide +kernel
theorem i_261_1223 : ins 261 1223 = some (.aload_n 1, 1) := by decide +kernel
theorem i_261_1224 : ins 261 1224 = some (.aload_n 0, 1) := by decide +kernel
theorem i_261_1225 : ins 261 1225 = some (.iload_n 3, 1) := by decide +kernel
theorem i_261_1226 : ins 261 1226 = some (.iconst 1, 1) := by decide +kernel
theorem i_261_1227 : ins 261 1227 = some (.iadd, 1) := by decide +kernel
theorem i_261_1228 : ins 261 1228 = some (.iaload, 1) := by decide +kernel
theorem i_261_1229 : ins 261 1229 = some (.aload_n 0, 1) := by decide +kernel
theorem i_261_1230 : ins 261 1230 = some (.iload_n 3, 1) := by decide +kernel
theorem i_261_1231 : ins 261 1231 = some (.iconst 2, 1) := by decide +kernel
theorem i_261_1232 : ins 261 1232 = some (.iadd, 1) := by decide +kernel
theorem i_261_1233 : ins 261 1233 = some (.iaload, 1) := by decide +kernel
theorem v_261_109 : inv 261 109 = some (38, 2, 1, 1048582) := by decide +kernel
theorem i_261_1234 : ins 261 1234 = some (.invokevirtual 109, 3) := by decide +kernel
theorem i_261_1237 : ins 261 1237 = some (.aload_n 2, 1) := by decide +kernel
theorem i_261_1238 : ins 261 1238 = some (.aload_n 0, 1) := by decide +kernel
theorem i_261_1239 : ins 261 1239 = some (.iload_n 3, 1) := by decide +kernel
theorem i_261_1240 : ins 261 1240 = some (.iconst 1, 1) := by decide +kernel
theorem i_261_1241 : ins 261 1241 = some (.iadd, 1) := by decide +kernel
theorem i_261_1242 : ins 261 1242 = some (.iaload, 1) := by decide +kernel
theorem i_261_1243 : ins 261 1243 = some (.aload_n 0, 1) := by decide +kernel
theorem i_261_1244 : ins 261 1244 = some (.iload_n 3, 1) := by decide +kernel
theorem i_261_1245 : ins 261 1245 = some (.iconst 2, 1) := by decide +kernel
theorem i_261_1246 : ins 261 1246 = some (.iadd, 1) := by decide +kernel
theorem i_261_1247 : ins 261 1247 = some (.iaload, 1) := by decide +kernel
theorem v_261_112 : inv 261 112 = some (168, 2, 1, 7340134) := by decide +kernel
theorem i_261_1248 : ins 261 1248 = some (.invokevirtual 112, 3) := by decide +kernel
theorem i_261_1251 : ins 261 1251 = some (.if_icmp .eq 574, 3) := by decide +kernel
theorem t_1251_1825 : tg 1251 (574) = some 1825 := by decide +kernel
theorem i_261_1254 : ins 261 1254 = some (.iconst 0, 1) := by decide +kernel
theorem i_261_1255 : ins 261 1255 = some (.ireturn, 1) := by decide +kernel
theorem i_261_1256 : ins 261 1256 = some (.aload_n 1, 1) := by decide +kernel
theorem i_261_1257 : ins 261 1257 = some (.aload_n 0, 1) := by decide +kernel
theorem i_261_1258 : ins 261 1258 = some (.iload_n 3, 1) := by decide +kernel
theorem i_261_1259 : ins 261 1259 = some (.iconst 1, 1) := by decide +kernel
theorem i_261_1260 : ins 261 1260 = some (.iadd, 1) := by decide +kernel
theorem i_261_1261 : ins 261 1261 = some (.iaload, 1) := by decide +kernel
theorem i_261_1262 : ins 261 1262 = some (.aload_n 0, 1) := by decide +kernel
theorem i_261_1263 : ins 261 1263 = some (.iload_n 3, 1) := by decide +kernel
theorem i_261_1264 : ins 261 1264 = some (.iconst 2, 1) := by decide +kernel
theorem i_261_1265 : ins 261 1265 = some (.iadd, 1) := by decide +kernel
theorem i_261_1266 : ins 261 1266 = some (.iaload, 1) := by decide +kernel
theorem v_261_113 : inv 261 113 = some (39, 2, 1, 1048582) := by decide +kernel
theorem i_261_1267 : ins 261 1267 = some (.invokevirtual 113, 3) := by decide +kernel
theorem i_261_1270 : ins 261 1270 = some (.aload_n 2, 1) := by decide +kernel
theorem i_261_1271 : ins 261 1271 = some (.aload_n 0, 1) := by decide +kernel
theorem i_261_1272 : ins 261 1272 = some (.iload_n 3, 1) := by decide +kernel
theorem i_261_1273 : ins 261 1273 = some (.iconst 1, 1) := by decide +kernel
theorem i_261_1274 : ins 261 1274 = some (.iadd, 1) := by decide +kernel
theorem i_261_1275 : ins 261 1275 = some (.iaload, 1) := by decide +kernel
theorem i_261_1276 : ins 261 1276 = some (.aload_n 0, 1) := by decide +kernel
theorem i_261_1277 : ins 261 1277 = some (.iload_n 3, 1) := by decide +kernel
theorem i_261_1278 : ins 261 1278 = some (.iconst 2, 1) := by decide +kernel
theorem i_261_1279 : ins 261 1279 = some (.iadd, 1) := by decide +kernel
theorem i_261_1280 : ins 261 1280 = some (.iaload, 1) := by decide +kernel
theorem v_261_116 : inv 261 116 = some (171, 2, 1, 7340134) := by decide +kernel
theorem i_261_1281 : ins 261 1281 = some (.invokevirtual 116, 3) := by decide +kernel
theorem i_261_1284 : ins 261 1284 = some (.if_icmp .eq 541, 3) := by decide +kernel
theorem t_1284_1825 : tg 1284 (541) = some 1825 := by decide +kernel
theorem i_261_1287 : ins 261 1287 = some (.iconst 0, 1) := by decide +kernel
theorem i_261_1288 : ins 261 1288 = some (.ireturn, 1) := by decide +kernel
theorem i_261_1289 : ins 261 1289 = some (.aload_n 1, 1) := by decide +kernel
theorem i_261_1290 : ins 261 1290 = some (.aload_n 0, 1) := by decide +kernel
theorem i_261_1291 : ins 261 1291 = some (.iload_n 3, 1) := by decide +kernel
theorem i_261_1292 : ins 261 1292 = some (.iconst 1, 1) := by decide +kernel
theorem i_261_1293 : ins 261 1293 = some (.iadd, 1) := by decide +kernel
theorem i_261_1294 : ins 261 1294 = some (.iaload, 1) := by decide +kernel
theorem v_261_117 : inv 261 117 = some (42, 1, 1, 1048582) := by decide +kernel
theorem i_261_1295 : ins 261 1295 = some (.invokevirtual 117, 3) := by decide +kernel
theorem i_261_1298 : ins 261 1298 = some (.aload_n 2, 1) := by decide +kernel
theorem i_261_1299 : ins 261 1299 = some (.aload_n 0, 1) := by decide +kernel
theorem i_261_1300 : ins 261 1300 = some (.iload_n 3, 1) := by decide +kernel
theorem i_261_1301 : ins 261 1301 = some (.iconst 1, 1) := by decide +kernel
theorem i_261_1302 : ins 261 1302 = some (.iadd, 1) := by decide +kernel
theorem i_261_1303 : ins 261 1303 = some (.iaload, 1) := by decide +kernel
theorem v_261_120 : inv 261 120 = some (174, 1, 1, 7340134) := by decide +kernel
theorem i_261_1304 : ins 261 1304 = some (.invokevirtual 120, 3) := by decide +kernel
theorem i_261_1307 : ins 261 1307 = some (.if_icmp .eq 518, 3) := by decide +kernel
theorem t_1307_1825 : tg 1307 (518) = some 1825 := by decide +kernel
theorem i_261_1310 : ins 261 1310 = some (.iconst 0, 1) := by decide +kernel
theorem i_261_1311 : ins 261 1311 = some (.ireturn, 1) := by decide +kernel
theorem i_261_1312 : ins 261 1312 = some (.aload_n 1, 1) := by decide +kernel
theorem i_261_1313 : ins 261 1313 = some (.aload_n 0, 1) := by decide +kernel
theorem i_261_1314 : ins 261 1314 = some (.iload_n 3, 1) := by decide +kernel
theorem i_261_1315 : ins 261 1315 = some (.iconst 1, 1) := by decide +kernel
theorem i_261_1316 : ins 261 1316 = some (.iadd, 1) := by decide +kernel
theorem i_261_1317 : ins 261 1317 = some (.iaload, 1) := by decide +kernel
theorem i_261_1318 : ins 261 1318 = some (.aload_n 0, 1) := by decide +kernel
theorem i_261_1319 : ins 261 1319 = some (.iload_n 3, 1) := by decide +kernel
theorem i_261_1320 : ins 261 1320 = some (.iconst 2, 1) := by decide +kernel
theorem i_261_1321 : ins 261 1321 = some (.iadd, 1) := by decide +kernel
theorem i_261_1322 : ins 261 1322 = some (.iaload, 1) := by decide +kernel
theorem i_261_1323 : ins 261 1323 = some (.aload_n 0, 1) := by decide +kernel
theorem i_261_1324 : ins 261 1324 = some (.iload_n 3, 1) := by decide +kernel
theorem i_261_1325 : ins 261 1325 = some (.iconst 3, 1) := by decide +kernel
theorem i_261_1326 : ins 261 1326 = some (.iadd, 1) := by decide +kernel
theorem i_261_1327 : ins 261 1327 = some (.iaload, 1) := by decide +kernel
theorem v_261_121 : inv 261 121 = some (43, 3, 1, 1048582) := by decide +kernel
theorem i_261_1328 : ins 261 1328 = some (.invokevirtual 121, 3) := by decide +kernel
theorem i_261_1331 : ins 261 1331 = some (.aload_n 2, 1) := by decide +kernel
theorem i_261_1332 : ins 261 1332 = some (.aload_n 0, 1) := by decide +kernel
theorem i_261_1333 : ins 261 1333 = some (.iload_n 3, 1) := by decide +kernel
theorem i_261_1334 : ins 261 1334 = some (.iconst 1, 1) := by decide +kernel
theorem i_261_1335 : ins 261 1335 = some (.iadd, 1) := by decide +kernel
theorem i_261_1336 : ins 261 1336 = some (.iaload, 1) := by decide +kernel
theorem i_261_1337 : ins 261 1337 = some (.aload_n 0, 1) := by decide +kernel
theorem i_261_1338 : ins 261 1338 = some (.iload_n 3, 1) := by decide +kernel
theorem i_261_1339 : ins 261 1339 = some (.iconst 2, 1) := by decide +kernel
theorem i_261_1340 : ins 261 1340 = some (.iadd, 1) := by decide +kernel
theorem i_261_1341 : ins 261 1341 = some (.iaload, 1) := by decide +kernel
theorem i_261_1342 : ins 261 1342 = some (.aload_n 0, 1) := by decide +kernel
theorem i_261_1343 : ins 261 1343 = some (.iload_n 3, 1) := by decide +kernel
theorem i_261_1344 : ins 261 1344 = some (.iconst 3, 1) := by decide +kernel
theorem i_261_1345 : ins 261 1345 = some (.iadd, 1) := by decide +kernel
theorem i_261_1346 : ins 261 1346 = some (.iaload, 1) := by decide +kernel
theorem v_261_124 : inv 261 124 = some (175, 3, 1, 7340134) := by decide +kernel
theorem i_261_1347 : ins 261 1347 = some (.invokevirtual 124, 3) := by decide +kernel
theorem i_261_1350 : ins 261 1350 = some (.if_icmp .eq 475, 3) := by decide +kernel
theorem t_1350_1825 : tg 1350 (475) = some 1825 := by decide +kernel
theorem i_261_1353 : ins 261 1353 = some (.iconst 0, 1) := by decide +kernel
theorem i_261_1354 : ins 261 1354 = some (.ireturn, 1) := by decide +kernel
theorem i_261_1355 : ins 261 1355 = some (.aload_n 1, 1) := by decide +kernel
theorem i_261_1356 : ins 261 1356 = some (.aload_n 0, 1) := by decide +kernel
theorem i_261_1357 : ins 261 1357 = some (.iload_n 3, 1) := by decide +kernel
theorem i_261_1358 : ins 261 1358 = some (.iconst 1, 1) := by decide +kernel
theorem i_261_1359 : ins 261 1359 = some (.iadd, 1) := by decide +kernel
theorem i_261_1360 : ins 261 1360 = some (.iaload, 1) := by decide +kernel
theorem i_261_1361 : ins 261 1361 = some (.aload_n 0, 1) := by decide +kernel
theorem i_261_1362 : ins 261 1362 = some (.iload_n 3, 1) := by decide +kernel
theorem i_261_1363 : ins 261 1363 = some (.iconst 2, 1) := by decide +kernel
theorem i_261_1364 : ins 261 1364 = some (.iadd, 1) := by decide +kernel
theorem i_261_1365 : ins 261 1365 = some (.iaload, 1) := by decide +kernel
theorem v_261_125 : inv 261 125 = some (44, 2, 1, 1048582) := by decide +kernel
theorem i_261_1366 : ins 261 1366 = some (.invokevirtual 125, 3) := by decide +kernel
theorem i_261_1369 : ins 261 1369 = some (.aload_n 2, 1) := by decide +kernel
theorem i_261_1370 : ins 261 1370 = some (.aload_n 0, 1) := by decide +kernel
theorem i_261_1371 : ins 261 1371 = some (.iload_n 3, 1) := by decide +kernel
theorem i_261_1372 : ins 261 1372 = some (.iconst 1, 1) := by decide +kernel
theorem i_261_1373 : ins 261 1373 = some (.iadd, 1) := by decide +kernel
theorem i_261_1374 : ins 261 1374 = some (.iaload, 1) := by decide +kernel
theorem i_261_1375 : ins 261 1375 = some (.aload_n 0, 1) := by decide +kernel
theorem i_261_1376 : ins 261 1376 = some (.iload_n 3, 1) := by decide +kernel
theorem i_261_1377 : ins 261 1377 = some (.iconst 2, 1) := by decide +kernel
theorem i_261_1378 : ins 261 1378 = some (.iadd, 1) := by decide +kernel
theorem i_261_1379 : ins 261 1379 = some (.iaload, 1) := by decide +kernel
theorem v_261_128 : inv 261 128 = some (177, 2, 1, 7340134) := by decide +kernel
theorem i_261_1380 : ins 261 1380 = some (.invokevirtual 128, 3) := by decide +kernel
theorem i_261_1383 : ins 261 1383 = some (.if_icmp .eq 442, 3) := by decide +kernel
theorem t_1383_1825 : tg 1383 (442) = some 1825 := by decide +kernel
theorem i_261_1386 : ins 261 1386 = some (.iconst 0, 1) := by decide +kernel
theorem i_261_1387 : ins 261 1387 = some (.ireturn, 1) := by decide +kernel
theorem i_261_1388 : ins 261 1388 = some (.aload_n 1, 1) := by decide +kernel
theorem i_261_1389 : ins 261 1389 = some (.aload_n 0, 1) := by decide +kernel
theorem i_261_1390 : ins 261 1390 = some (.iload_n 3, 1) := by decide +kernel
theorem i_261_1391 : ins 261 1391 = some (.iconst 1, 1) := by decide +kernel
theorem i_261_1392 : ins 261 1392 = some (.iadd, 1) := by decide +kernel
theorem i_261_1393 : ins 261 1393 = some (.iaload, 1) := by decide +kernel
theorem i_261_1394 : ins 261 1394 = some (.aload_n 0, 1) := by decide +kernel
theorem i_261_1395 : ins 261 1395 = some (.iload_n 3, 1) := by decide +kernel
theorem i_261_1396 : ins 261 1396 = some (.iconst 2, 1) := by decide +kernel
theorem i_261_1397 : ins 261 1397 = some (.iadd, 1) := by decide +kernel
theorem i_261_1398 : ins 261 1398 = some (.iaload, 1) := by decide +kernel
theorem v_261_129 : inv 261 129 = some (45, 2, 1, 1048582) := by decide +kernel
theorem i_261_1399 : ins 261 1399 = some (.invokevirtual 129, 3) := by decide +kernel
theorem i_261_1402 : ins 261 1402 = some (.aload_n 2, 1) := by decide +kernel
theorem i_261_1403 : ins 261 1403 = some (.aload_n 0, 1) := by decide +kernel
theorem i_261_1404 : ins 261 1404 = some (.iload_n 3, 1) := by decide +kernel
theorem i_261_1405 : ins 261 1405 = some (.iconst 1, 1) := by decide +kernel
theorem i_261_1406 : ins 261 1406 = some (.iadd, 1) := by decide +kernel
theorem i_261_1407 : ins 261 1407 = some (.iaload, 1) := by decide +kernel
theorem i_261_1408 : ins 261 1408 = some (.aload_n 0, 1) := by decide +kernel
theorem i_261_1409 : ins 261 1409 = some (.iload_n 3, 1) := by decide +kernel
theorem i_261_1410 : ins 261 1410 = some (.iconst 2, 1) := by decide +kernel
theorem i_261_1411 : ins 261 1411 = some (.iadd, 1) := by decide +kernel
theorem i_261_1412 : ins 261 1412 = some (.iaload, 1) := by decide +kernel
theorem v_261_132 : inv 261 132 = some (178, 2, 1, 7340134) := by decide +kernel
theorem i_261_1413 : ins 261 1413 = some (.invokevirtual 132, 3) := by decide +kernel
theorem i_261_1416 : ins 261 1416 = some (.if_icmp .eq 409, 3) := by decide +kernel
theorem t_1416_1825 : tg 1416 (409) = some 1825 := by decide +kernel
theorem i_261_1419 : ins 261 1419 = some (.iconst 0, 1) := by decide +kernel
theorem i_261_1420 : ins 261 1420 = some (.ireturn, 1) := by decide +kernel
theorem i_261_1421 : ins 261 1421 = some (.aload_n 1, 1) := by decide +kernel
theorem i_261_1422 : ins 261 1422 = some (.aload_n 0, 1) := by decide +kernel
theorem i_261_1423 : ins 261 1423 = some (.iload_n 3, 1) := by decide +kernel
theorem i_261_1424 : ins 261 1424 = some (.iconst 1, 1) := by decide +kernel
theorem i_261_1425 : ins 261 1425 = some (.iadd, 1) := by decide +kernel
theorem i_261_1426 : ins 261 1426 = some (.iaload, 1) := by decide +kernel
theorem i_261_1427 : ins 261 1427 = some (.aload_n 0, 1) := by decide +kernel
theorem i_261_1428 : ins 261 1428 = some (.iload_n 3, 1) := by decide +kernel
theorem i_261_1429 : ins 261 1429 = some (.iconst 2, 1) := by decide +kernel
theorem i_261_1430 : ins 261 1430 = some (.iadd, 1) := by decide +kernel
theorem i_261_1431 : ins 261 1431 = some (.iaload, 1) := by decide +kernel
theorem v_261_133 : inv 261 133 = some (47, 2, 1, 1048582) := by decide +kernel
theorem i_261_1432 : ins 261 1432 = some (.invokevirtual 133, 3) := by decide +kernel
theorem i_261_1435 : ins 261 1435 = some (.aload_n 2, 1) := by decide +kernel
theorem i_261_1436 : ins 261 1436 = some (.aload_n 0, 1) := by decide +kernel
theorem i_261_1437 : ins 261 1437 = some (.iload_n 3, 1) := by decide +kernel
theorem i_261_1438 : ins 261 1438 = some (.iconst 1, 1) := by decide +kernel
theorem i_261_1439 : ins 261 1439 = some (.iadd, 1) := by decide +kernel
theorem i_261_1440 : ins 261 1440 = some (.iaload, 1) := by decide +kernel
theorem i_261_1441 : ins 261 1441 = some (.aload_n 0, 1) := by decide +kernel
theorem i_261_1442 : ins 261 1442 = some (.iload_n 3, 1) := by decide +kernel
theorem i_261_1443 : ins 261 1443 = some (.iconst 2, 1) := by decide +kernel
theorem i_261_1444 : ins 261 1444 = some (.iadd, 1) := by decide +kernel
theorem i_261_1445 : ins 261 1445 = some (.iaload, 1) := by decide +kernel
theorem v_261_136 : inv 261 136 = some (179, 2, 1, 7340134) := by decide +kernel
theorem i_261_1446 : ins 261 1446 = some (.invokevirtual 136, 3) := by decide +kernel
theorem i_261_1449 : ins 261 1449 = some (.if_icmp .eq 376, 3) := by decide +kernel
theorem t_1449_1825 : tg 1449 (376) = some 1825 := by decide +kernel
theorem i_261_1452 : ins 261 1452 = some (.iconst 0, 1) := by decide +kernel
theorem i_261_1453 : ins 261 1453 = some (.ireturn, 1) := by decide +kernel
theorem i_261_1454 : ins 261 1454 = some (.aload_n 1, 1) := by decide +kernel
theorem i_261_1455 : ins 261 1455 = some (.aload_n 0, 1) := by decide +kernel
theorem i_261_1456 : ins 261 1456 = some (.iload_n 3, 1) := by decide +kernel
theorem i_261_1457 : ins 261 1457 = some (.iconst 1, 1) := by decide +kernel
theorem i_261_1458 : ins 261 1458 = some (.iadd, 1) := by decide +kernel
theorem i_261_1459 : ins 261 1459 = some (.iaload, 1) := by decide +kernel
theorem v_261_137 : inv 261 137 = some (49, 1, 1, 1048582) := by decide +kernel
theorem i_261_1460 : ins 261 1460 = some (.invokevirtual 137, 3) := by decide +kernel
theorem i_261_1463 : ins 261 1463 = some (.aload_n 2, 1) := by decide +kernel
theorem i_261_1464 : ins 261 1464 = some (.aload_n 0, 1) := by decide +kernel
theorem i_261_1465 : ins 261 1465 = some (.iload_n 3, 1) := by decide +kernel
theorem i_261_1466 : ins 261 1466 = some (.iconst 1, 1) := by decide +kernel
theorem i_261_1467 : ins 261 1467 = some (.iadd, 1) := by decide +kernel
theorem i_261_1468 : ins 261 1468 = some (.iaload, 1) := by decide +kernel
theorem v_261_140 : inv 261 140 = some (181, 1, 1, 7340134) := by decide +kernel
theorem i_261_1469 : ins 261 1469 = some (.invokevirtual 140, 3) := by decide +kernel
theorem i_261_1472 : ins 261 1472 = some (.if_icmp .eq 353, 3) := by decide +kernel
theorem t_1472_1825 : tg 1472 (353) = some 1825 := by decide +kernel
theorem i_261_1475 : ins 261 1475 = some (.iconst 0, 1) := by decide +kernel
theorem i_261_1476 : ins 261 1476 = some (.ireturn, 1) := by decide +kernel
theorem i_261_1477 : ins 261 1477 = some (.aload_n 1, 1) := by decide +kernel
theorem i_261_1478 : ins 261 1478 = some (.aload_n 0, 1) := by decide +kernel
theorem i_261_1479 : ins 261 1479 = some (.iload_n 3, 1) := by decide +kernel
theorem i_261_1480 : ins 261 1480 = some (.iconst 1, 1) := by decide +kernel
theorem i_261_1481 : ins 261 1481 = some (.iadd, 1) := by decide +kernel
theorem i_261_1482 : ins 261 1482 = some (.iaload, 1) := by decide +kernel
theorem i_261_1483 : ins 261 1483 = some (.aload_n 0, 1) := by decide +kernel
theorem i_261_1484 : ins 261 1484 = some (.iload_n 3, 1) := by decide +kernel
theorem i_261_1485 : ins 261 1485 = some (.iconst 2, 1) := by decide +kernel
theorem i_261_1486 : ins 261 1486 = some (.iadd, 1) := by decide +kernel
theorem i_261_1487 : ins 261 1487 = some (.iaload, 1) := by decide +kernel
theorem i_261_1488 : ins 261 1488 = some (.aload_n 0, 1) := by decide +kernel
theorem i_261_1489 : ins 261 1489 = some (.iload_n 3, 1) := by decide +kernel
theorem i_261_1490 : ins 261 1490 = some (.iconst 3, 1) := by decide +kernel
theorem i_261_1491 : ins 261 1491 = some (.iadd, 1) := by decide +kernel
theorem i_261_1492 : ins 261 1492 = some (.iaload, 1) := by decide +kernel
theorem i_261_1493 : ins 261 1493 = some (.aload_n 0, 1) := by decide +kernel
theorem i_261_1494 : ins 261 1494 = some (.iload_n 3, 1) := by decide +kernel
theorem i_261_1495 : ins 261 1495 = some (.iconst 4, 1) := by decide +kernel
theorem i_261_1496 : ins 261 1496 = some (.iadd, 1) := by decide +kernel
theorem i_261_1497 : ins 261 1497 = some (.iaload, 1) := by decide +kernel
theorem v_261_141 : inv 261 141 = some (50, 4, 1, 1048582) := by decide +kernel
theorem i_261_1498 : ins 261 1498 = some (.invokevirtual 141, 3) := by decide +kernel
theorem i_261_1501 : ins 261 1501 = some (.aload_n 2, 1) := by decide +kernel
theorem i_261_1502 : ins 261 1502 = some (.aload_n 0, 1) := by decide +kernel
theorem i_261_1503 : ins 261 1503 = some (.iload_n 3, 1) := by decide +kernel
theorem i_261_1504 : ins 261 1504 = some (.iconst 1, 1) := by decide +kernel
theorem i_261_1505 : ins 261 1505 = some (.iadd, 1) := by decide +kernel
theorem i_261_1506 : ins 261 1506 = some (.iaload, 1) := by decide +kernel
theorem i_261_1507 : ins 261 1507 = some (.aload_n 0, 1) := by decide +kernel
theorem i_261_1508 : ins 261 1508 = some (.iload_n 3, 1) := by decide +kernel
theorem i_261_1509 : ins 261 1509 = some (.iconst 2, 1) := by decide +kernel
theorem i_261_1510 : ins 261 1510 = some (.iadd, 1) := by decide +kernel
theorem i_261_1511 : ins 261 1511 = some (.iaload, 1) := by decide +kernel
theorem i_261_1512 : ins 261 1512 = some (.aload_n 0, 1) := by decide +kernel
theorem i_261_1513 : ins 261 1513 = some (.iload_n 3, 1) := by decide +kernel
theorem i_261_1514 : ins 261 1514 = some (.iconst 3, 1) := by decide +kernel
theorem i_261_1515 : ins 261 1515 = some (.iadd, 1) := by decide +kernel
theorem i_261_1516 : ins 261 1516 = some (.iaload, 1) := by decide +kernel
theorem i_261_1517 : ins 261 1517 = some (.aload_n 0, 1) := by decide +kernel
theorem i_261_1518 : ins 261 1518 = some (.iload_n 3, 1) := by decide +kernel
theorem i_261_1519 : ins 261 1519 = some (.iconst 4, 1) := by decide +kernel
theorem i_261_1520 : ins 261 1520 = some (.iadd, 1) := by decide +kernel
theorem i_261_1521 : ins 261 1521 = some (.iaload, 1) := by decide +kernel
theorem v_261_144 : inv 261 144 = some (182, 4, 1, 7340134) := by decide +kernel
theorem i_261_1522 : ins 261 1522 = some (.invokevirtual 144, 3) := by decide +kernel
theorem i_261_1525 : ins 261 1525 = some (.if_icmp .eq 300, 3) := by decide +kernel
theorem t_1525_1825 : tg 1525 (300) = some 1825 := by decide +kernel
theorem i_261_1528 : ins 261 1528 = some (.iconst 0, 1) := by decide +kernel
theorem i_261_1529 : ins 261 1529 = some (.ireturn, 1) := by decide +kernel
theorem i_261_1530 : ins 261 1530 = some (.aload_n 1, 1) := by decide +kernel
theorem i_261_1531 : ins 261 1531 = some (.aload_n 0, 1) := by decide +kernel
theorem i_261_1532 : ins 261 1532 = some (.iload_n 3, 1) := by decide +kernel
theorem i_261_1533 : ins 261 1533 = some (.iconst 1, 1) := by decide +kernel
theorem i_261_1534 : ins 261 1534 = some (.iadd, 1) := by decide +kernel
theorem i_261_1535 : ins 261 1535 = some (.iaload, 1) := by decide +kernel
theorem i_261_1536 : ins 261 1536 = some (.aload_n 0, 1) := by decide +kernel
theorem i_261_1537 : ins 261 1537 = some (.iload_n 3, 1) := by decide +kernel
theorem i_261_1538 : ins 261 1538 = some (.iconst 2, 1) := by decide +kernel
theorem i_261_1539 : ins 261 1539 = some (.iadd, 1) := by decide +kernel
theorem i_261_1540 : ins 261 1540 = some (.iaload, 1) := by decide +kernel
theorem i_261_1541 : ins 261 1541 = some (.aload_n 0, 1) := by decide +kernel
theorem i_261_1542 : ins 261 1542 = some (.iload_n 3, 1) := by decide +kernel
theorem i_261_1543 : ins 261 1543 = some (.iconst 3, 1) := by decide +kernel
theorem i_261_1544 : ins 261 1544 = some (.iadd, 1) := by decide +kernel
theorem i_261_1545 : ins 261 1545 = some (.iaload, 1) := by decide +kernel
theorem v_261_145 : inv 261 145 = some (51, 3, 1, 1048582) := by decide +kernel
theorem i_261_1546 : ins 261 1546 = some (.invokevirtual 145, 3) := by decide +kernel
theorem i_261_1549 : ins 261 1549 = some (.aload_n 2, 1) := by decide +kernel
theorem i_261_1550 : ins 261 1550 = some (.aload_n 0, 1) := by decide +kernel
theorem i_261_1551 : ins 261 1551 = some (.iload_n 3, 1) := by decide +kernel
theorem i_261_1552 : ins 261 1552 = some (.iconst 1, 1) := by decide +kernel
theorem i_261_1553 : ins 261 1553 = some (.iadd, 1) := by decide +kernel
theorem i_261_1554 : ins 261 1554 = some (.iaload, 1) := by decide +kernel
theorem i_261_1555 : ins 261 1555 = some (.aload_n 0, 1) := by decide +kernel
theorem i_261_1556 : ins 261 1556 = some (.iload_n 3, 1) := by decide +kernel
theorem i_261_1557 : ins 261 1557 = some (.iconst 2, 1) := by decide +kernel
theorem i_261_1558 : ins 261 1558 = some (.iadd, 1) := by decide +kernel
theorem i_261_1559 : ins 261 1559 = some (.iaload, 1) := by decide +kernel
theorem i_261_1560 : ins 261 1560 = some (.aload_n 0, 1) := by decide +kernel
theorem i_261_1561 : ins 261 1561 = some (.iload_n 3, 1) := by decide +kernel
theorem i_261_1562 : ins 261 1562 = some (.iconst 3, 1) := by decide +kernel
theorem i_261_1563 : ins 261 1563 = some (.iadd, 1) := by decide +kernel
theorem i_261_1564 : ins 261 1564 = some (.iaload, 1) := by decide +kernel
theorem v_261_148 : inv 261 148 = some (183, 3, 1, 7340134) := by decide +kernel
theorem i_261_1565 : ins 261 1565 = some (.invokevirtual 148, 3) := by decide +kernel
theorem i_261_1568 : ins 261 1568 = some (.if_icmp .eq 257, 3) := by decide +kernel
theorem t_1568_1825 : tg 1568 (257) = some 1825 := by decide +kernel
theorem i_261_1571 : ins 261 1571 = some (.iconst 0, 1) := by decide +kernel
theorem i_261_1572 : ins 261 1572 = some (.ireturn, 1) := by decide +kernel
theorem i_261_1573 : ins 261 1573 = some (.aload_n 1, 1) := by decide +kernel
theorem i_261_1574 : ins 261 1574 = some (.aload_n 0, 1) := by decide +kernel
theorem i_261_1575 : ins 261 1575 = some (.iload_n 3, 1) := by decide +kernel
theorem i_261_1576 : ins 261 1576 = some (.iconst 1, 1) := by decide +kernel
theorem i_261_1577 : ins 261 1577 = some (.iadd, 1) := by decide +kernel
theorem i_261_1578 : ins 261 1578 = some (.iaload, 1) := by decide +kernel
theorem i_261_1579 : ins 261 1579 = some (.aload_n 0, 1) := by decide +kernel
theorem i_261_1580 : ins 261 1580 = some (.iload_n 3, 1) := by decide +kernel
theorem i_261_1581 : ins 261 1581 = some (.iconst 2, 1) := by decide +kernel
theorem i_261_1582 : ins 261 1582 = some (.iadd, 1) := by decide +kernel
theorem i_261_1583 : ins 261 1583 = some (.iaload, 1) := by decide +kernel
theorem v_261_149 : inv 261 149 = some (53, 2, 1, 1048582) := by decide +kernel
theorem i_261_1584 : ins 261 1584 = some (.invokevirtual 149, 3) := by decide +kernel
theorem i_261_1587 : ins 261 1587 = some (.aload_n 2, 1) := by decide +kernel
theorem i_261_1588 : ins 261 1588 = some (.aload_n 0, 1) := by decide +kernel
theorem i_261_1589 : ins 261 1589 = some (.iload_n 3, 1) := by decide +kernel
theorem i_261_1590 : ins 261 1590 = some (.iconst 1, 1) := by decide +kernel
theorem i_261_1591 : ins 261 1591 = some (.iadd, 1) := by decide +kernel
theorem i_261_1592 : ins 261 1592 = some (.iaload, 1) := by decide +kernel
theorem i_261_1593 : ins 261 1593 = some (.aload_n 0, 1) := by decide +kernel
theorem i_261_1594 : ins 261 1594 = some (.iload_n 3, 1) := by decide +kernel
theorem i_261_1595 : ins 261 1595 = some (.iconst 2, 1) := by decide +kernel
theorem i_261_1596 : ins 261 1596 = some (.iadd, 1) := by decide +kernel
theorem i_261_1597 : ins 261 1597 = some (.iaload, 1) := by decide +kernel
theorem v_261_152 : inv 261 152 = some (185, 2, 1, 7340134) := by decide +kernel
theorem i_261_1598 : ins 261 1598 = some (.invokevirtual 152, 3) := by decide +kernel
theorem i_261_1601 : ins 261 1601 = some (.if_icmp .eq 224, 3) := by decide +kernel
theorem t_1601_1825 : tg 1601 (224) = some 1825 := by decide +kernel
theorem i_261_1604 : ins 261 1604 = some (.iconst 0, 1) := by decide +kernel
theorem i_261_1605 : ins 261 1605 = some (.ireturn, 1) := by decide +kernel
theorem i_261_1606 : ins 261 1606 = some (.aload_n 1, 1) := by decide +kernel
theorem i_261_1607 : ins 261 1607 = some (.aload_n 0, 1) := by decide +kernel
theorem i_261_1608 : ins 261 1608 = some (.iload_n 3, 1) := by decide +kernel
theorem i_261_1609 : ins 261 1609 = some (.iconst 1, 1) := by decide +kernel
theorem i_261_1610 : ins 261 1610 = some (.iadd, 1) := by decide +kernel
theorem i_261_1611 : ins 261 1611 = some (.iaload, 1) := by decide +kernel
theorem i_261_1612 : ins 261 1612 = some (.aload_n 0, 1) := by decide +kernel
theorem i_261_1613 : ins 261 1613 = some (.iload_n 3, 1) := by decide +kernel
theorem i_261_1614 : ins 261 1614 = some (.iconst 2, 1) := by decide +kernel
theorem i_261_1615 : ins 261 1615 = some (.iadd, 1) := by decide +kernel
theorem i_261_1616 : ins 261 1616 = some (.iaload, 1) := by decide +kernel
theorem i_261_1617 : ins 261 1617 = some (.aload_n 0, 1) := by decide +kernel
theorem i_261_1618 : ins 261 1618 = some (.iload_n 3, 1) := by decide +kernel
theorem i_261_1619 : ins 261 1619 = some (.iconst 3, 1) := by decide +kernel
theorem i_261_1620 : ins 261 1620 = some (.iadd, 1) := by decide +kernel
theorem i_261_1621 : ins 261 1621 = some (.iaload, 1) := by decide +kernel
theorem i_261_1622 : ins 261 1622 = some (.aload_n 0, 1) := by decide +kernel
theorem i_261_1623 : ins 261 1623 = some (.iload_n 3, 1) := by decide +kernel
theorem i_261_1624 : ins 261 1624 = some (.iconst 4, 1) := by decide +kernel
theorem i_261_1625 : ins 261 1625 = some (.iadd, 1) := by decide +kernel
theorem i_261_1626 : ins 261 1626 = some (.iaload, 1) := by decide +kernel
theorem v_261_153 : inv 261 153 = some (55, 4, 1, 1048582) := by decide +kernel
theorem i_261_1627 : ins 261 1627 = some (.invokevirtual 153, 3) := by decide +kernel
theorem i_261_1630 : ins 261 1630 = some (.aload_n 2, 1) := by decide +kernel
theorem i_261_1631 : ins 261 1631 = some (.aload_n 0, 1) := by decide +kernel
theorem i_261_1632 : ins 261 1632 = some (.iload_n 3, 1) := by decide +kernel
theorem i_261_1633 : ins 261 1633 = some (.iconst 1, 1) := by decide +kernel
theorem i_261_1634 : ins 261 1634 = some (.iadd, 1) := by decide +kernel
theorem i_261_1635 : ins 261 1635 = some (.iaload, 1) := by decide +kernel
theorem i_261_1636 : ins 261 1636 = some (.aload_n 0, 1) := by decide +kernel
theorem i_261_1637 : ins 261 1637 = some (.iload_n 3, 1) := by decide +kernel
theorem i_261_1638 : ins 261 1638 = some (.iconst 2, 1) := by decide +kernel
theorem i_261_1639 : ins 261 1639 = some (.iadd, 1) := by decide +kernel
theorem i_261_1640 : ins 261 1640 = some (.iaload, 1) := by decide +kernel
theorem i_261_1641 : ins 261 1641 = some (.aload_n 0, 1) := by decide +kernel
theorem i_261_1642 : ins 261 1642 = some (.iload_n 3, 1) := by decide +kernel
theorem i_261_1643 : ins 261 1643 = some (.iconst 3, 1) := by decide +kernel
theorem i_261_1644 : ins 261 1644 = some (.iadd, 1) := by decide +kernel
theorem i_261_1645 : ins 261 1645 = some (.iaload, 1) := by decide +kernel
theorem i_261_1646 : ins 261 1646 = some (.aload_n 0, 1) := by decide +kernel
theorem i_261_1647 : ins 261 1647 = some (.iload_n 3, 1) := by decide +kernel
theorem i_261_1648 : ins 261 1648 = some (.iconst 4, 1) := by decide +kernel
theorem i_261_1649 : ins 261 1649 = some (.iadd, 1) := by decide +kernel
theorem i_261_1650 : ins 261 1650 = some (.iaload, 1) := by decide +kernel
theorem v_261_156 : inv 261 156 = some (188, 4, 1, 7340134) := by decide +kernel
theorem i_261_1651 : ins 261 1651 = some (.invokevirtual 156, 3) := by decide +kernel
theorem i_261_1654 : ins 261 1654 = some (.if_icmp .eq 171, 3) := by decide +kernel
theorem t_1654_1825 : tg 1654 (171) = some 1825 := by decide +kernel
theorem i_261_1657 : ins 261 1657 = some (.iconst 0, 1) := by decide +kernel
theorem i_261_1658 : ins 261 1658 = some (.ireturn, 1) := by decide +kernel
theorem i_261_1659 : ins 261 1659 = some (.aload_n 1, 1) := by decide +kernel
theorem i_261_1660 : ins 261 1660 = some (.aload_n 0, 1) := by decide +kernel
theorem i_261_1661 : ins 261 1661 = some (.iload_n 3, 1) := by decide +kernel
theorem i_261_1662 : ins 261 1662 = some (.iconst 1, 1) := by decide +kernel
theorem i_261_1663 : ins 261 1663 = some (.iadd, 1) := by decide +kernel
theorem i_261_1664 : ins 261 1664 = some (.iaload, 1) := by decide +kernel
theorem i_261_1665 : ins 261 1665 = some (.aload_n 0, 1) := by decide +kernel
theorem i_261_1666 : ins 261 1666 = some (.iload_n 3, 1) := by decide +kernel
theorem i_261_1667 : ins 261 1667 = some (.iconst 2, 1) := by decide +kernel
theorem i_261_1668 : ins 261 1668 = some (.iadd, 1) := by decide +kernel
theorem i_261_1669 : ins 261 1669 = some (.iaload, 1) := by decide +kernel
theorem i_261_1670 : ins 261 1670 = some (.aload_n 0, 1) := by decide +kernel
theorem i_261_1671 : ins 261 1671 = some (.iload_n 3, 1) := by decide +kernel
theorem i_261_1672 : ins 261 1672 = some (.iconst 3, 1) := by decide +kernel
theorem i_261_1673 : ins 261 1673 = some (.iadd, 1) := by decide +kernel
theorem i_261_1674 : ins 261 1674 = some (.iaload, 1) := by decide +kernel
theorem v_261_157 : inv 261 157 = some (57, 3, 1, 1048582) := by decide +kernel
theorem i_261_1675 : ins 261 1675 = some (.invokevirtual 157, 3) := by decide +kernel
theorem i_261_1678 : ins 261 1678 = some (.aload_n 2, 1) := by decide +kernel
theorem i_261_1679 : ins 261 1679 = some (.aload_n 0, 1) := by decide +kernel
theorem i_261_1680 : ins 261 1680 = some (.iload_n 3, 1) := by decide +kernel
theorem i_261_1681 : ins 261 1681 = some (.iconst 1, 1) := by decide +kernel
theorem i_261_1682 : ins 261 1682 = some (.iadd, 1) := by decide +kernel
theorem i_261_1683 : ins 261 1683 = some (.iaload, 1) := by decide +kernel
theorem i_261_1684 : ins 261 1684 = some (.aload_n 0, 1) := by decide +kernel
theorem i_261_1685 : ins 261 1685 = some (.iload_n 3, 1) := by decide +kernel
theorem i_261_1686 : ins 261 1686 = some (.iconst 2, 1) := by decide +kernel
theorem i_261_1687 : ins 261 1687 = some (.iadd, 1) := by decide +kernel
theorem i_261_1688 : ins 261 1688 = some (.iaload, 1) := by decide +kernel
theorem i_261_1689 : ins 261 1689 = some (.aload_n 0, 1) := by decide +kernel
theorem i_261_1690 : ins 261 1690 = some (.iload_n 3, 1) := by decide +kernel
theorem i_261_1691 : ins 261 1691 = some (.iconst 3, 1) := by decide +kernel
theorem i_261_1692 : ins 261 1692 = some (.iadd, 1) := by decide +kernel
theorem i_261_1693 : ins 261 1693 = some (.iaload, 1) := by decide +kernel
theorem v_261_160 : inv 261 160 = some (190, 3, 1, 7340134) := by decide +kernel
theorem i_261_1694 : ins 261 1694 = some (.invokevirtual 160, 3) := by decide +kernel
theorem i_261_1697 : ins 261 1697 = some (.if_icmp .eq 128, 3) := by decide +kernel
theorem t_1697_1825 : tg 1697 (128) = some 1825 := by decide +kernel
theorem i_261_1700 : ins 261 1700 = some (.iconst 0, 1) := by decide +kernel
theorem i_261_1701 : ins 261 1701 = some (.ireturn, 1) := by decide +kernel
theorem i_261_1702 : ins 261 1702 = some (.aload_n 1, 1) := by decide +kernel
theorem i_261_1703 : ins 261 1703 = some (.aload_n 0, 1) := by decide +kernel
theorem i_261_1704 : ins 261 1704 = some (.iload_n 3, 1) := by decide +kernel
theorem i_261_1705 : ins 261 1705 = some (.iconst 1, 1) := by decide +kernel
theorem i_261_1706 : ins 261 1706 = some (.iadd, 1) := by decide +kernel
theorem i_261_1707 : ins 261 1707 = some (.iaload, 1) := by decide +kernel
theorem i_261_1708 : ins 261 1708 = some (.aload_n 0, 1) := by decide +kernel
theorem i_261_1709 : ins 261 1709 = some (.iload_n 3, 1) := by decide +kernel
theorem i_261_1710 : ins 261 1710 = some (.iconst 2, 1) := by decide +kernel
theorem i_261_1711 : ins 261 1711 = some (.iadd, 1) := by decide +kernel
theorem i_261_1712 : ins 261 1712 = some (.iaload, 1) := by decide +kernel
theorem i_261_1713 : ins 261 1713 = some (.aload_n 0, 1) := by decide +kernel
theorem i_261_1714 : ins 261 1714 = some (.iload_n 3, 1) := by decide +kernel
theorem i_261_1715 : ins 261 1715 = some (.iconst 3, 1) := by decide +kernel
theorem i_261_1716 : ins 261 1716 = some (.iadd, 1) := by decide +kernel
theorem i_261_1717 : ins 261 1717 = some (.iaload, 1) := by decide +kernel
theorem v_261_161 : inv 261 161 = some (60, 3, 1, 1048582) := by decide +kernel
theorem i_261_1718 : ins 261 1718 = some (.invokevirtual 161, 3) := by decide +kernel
theorem i_261_1721 : ins 261 1721 = some (.aload_n 2, 1) := by decide +kernel
theorem i_261_1722 : ins 261 1722 = some (.aload_n 0, 1) := by decide +kernel
theorem i_261_1723 : ins 261 1723 = some (.iload_n 3, 1) := by decide +kernel
theorem i_261_1724 : ins 261 1724 = some (.iconst 1, 1) := by decide +kernel
theorem i_261_1725 : ins 261 1725 = some (.iadd, 1) := by decide +kernel
theorem i_261_1726 : ins 261 1726 = some (.iaload, 1) := by decide +kernel
theorem i_261_1727 : ins 261 1727 = some (.aload_n 0, 1) := by decide +kernel
theorem i_261_1728 : ins 261 1728 = some (.iload_n 3, 1) := by decide +kernel
theorem i_261_1729 : ins 261 1729 = some (.iconst 2, 1) := by decide +kernel
theorem i_261_1730 : ins 261 1730 = some (.iadd, 1) := by decide +kernel
theorem i_261_1731 : ins 261 1731 = some (.iaload, 1) := by decide +kernel
theorem i_261_1732 : ins 261 1732 = some (.aload_n 0, 1) := by decide +kernel
theorem i_261_1733 : ins 261 1733 = some (.iload_n 3, 1) := by decide +kernel
theorem i_261_1734 : ins 261 1734 = some (.iconst 3, 1) := by decide +kernel
theorem i_261_1735 : ins 261 1735 = some (.iadd, 1) := by decide +kernel
theorem i_261_1736 : ins 261 1736 = some (.iaload, 1) := by decide +kernel
theorem v_261_164 : inv 261 164 = some (193, 3, 1, 7340134) := by decide +kernel
theorem i_261_1737 : ins 261 1737 = some (.invokevirtual 164, 3) := by decide +kernel
theorem i_261_1740 : ins 261 1740 = some (.if_icmp .eq 85, 3) := by decide +kernel
theorem t_1740_1825 : tg 1740 (85) = some 1825 := by decide +kernel
theorem i_261_1743 : ins 261 1743 = some (.iconst 0, 1) := by decide +kernel
theorem i_261_1744 : ins 261 1744 = some (.ireturn, 1) := by decide +kernel
theorem i_261_1745 : ins 261 1745 = some (.aload_n 1, 1) := by decide +kernel
theorem i_261_1746 : ins 261 1746 = some (.aload_n 0, 1) := by decide +kernel
theorem i_261_1747 : ins 261 1747 = some (.iload_n 3, 1) := by decide +kernel
theorem i_261_1748 : ins 261 1748 = some (.iconst 1, 1) := by decide +kernel
theorem i_261_1749 : ins 261 1749 = some (.iadd, 1) := by decide +kernel
theorem i_261_1750 : ins 261 1750 = some (.iaload, 1) := by decide +kernel
theorem v_261_165 : inv 261 165 = some (61, 1, 1, 1048582) := by decide +kernel
theorem i_261_1751 : ins 261 1751 = some (.invokevirtual 165, 3) := by decide +kernel
theorem i_261_1754 : ins 261 1754 = some (.aload_n 2, 1) := by decide +kernel
theorem i_261_1755 : ins 261 1755 = some (.aload_n 0, 1) := by decide +kernel
theorem i_261_1756 : ins 261 1756 = some (.iload_n 3, 1) := by decide +kernel
theorem i_261_1757 : ins 261 1757 = some (.iconst 1, 1) := by decide +kernel
theorem i_261_1758 : ins 261 1758 = some (.iadd, 1) := by decide +kernel
theorem i_261_1759 : ins 261 1759 = some (.iaload, 1) := by decide +kernel
theorem v_261_168 : inv 261 168 = some (195, 1, 1, 7340134) := by decide +kernel
theorem i_261_1760 : ins 261 1760 = some (.invokevirtual 168, 3) := by decide +kernel
theorem i_261_1763 : ins 261 1763 = some (.if_icmp .eq 62, 3) := by decide +kernel
theorem t_1763_1825 : tg 1763 (62) = some 1825 := by decide +kernel
theorem i_261_1766 : ins 261 1766 = some (.iconst 0, 1) := by decide +kernel
theorem i_261_1767 : ins 261 1767 = some (.ireturn, 1) := by decide +kernel
theorem i_261_1768 : ins 261 1768 = some (.aload_n 1, 1) := by decide +kernel
theorem i_261_1769 : ins 261 1769 = some (.aload_n 0, 1) := by decide +kernel
theorem i_261_1770 : ins 261 1770 = some (.iload_n 3, 1) := by decide +kernel
theorem i_261_1771 : ins 261 1771 = some (.iconst 1, 1) := by decide +kernel
theorem i_261_1772 : ins 261 1772 = some (.iadd, 1) := by decide +kernel
theorem i_261_1773 : ins 261 1773 = some (.iaload, 1) := by decide +kernel
theorem i_261_1774 : ins 261 1774 = some (.aload_n 0, 1) := by decide +kernel
theorem i_261_1775 : ins 261 1775 = some (.iload_n 3, 1) := by decide +kernel
theorem i_261_1776 : ins 261 1776 = some (.iconst 2, 1) := by decide +kernel
theorem i_261_1777 : ins 261 1777 = some (.iadd, 1) := by decide +kernel
theorem i_261_1778 : ins 261 1778 = some (.iaload, 1) := by decide +kernel
theorem v_261_169 : inv 261 169 = some (63, 2, 1, 1048582) := by decide +kernel
theorem i_261_1779 : ins 261 1779 = some (.invokevirtual 169, 3) := by decide +kernel
theorem i_261_1782 : ins 261 1782 = some (.aload_n 2, 1) := by decide +kernel
theorem i_261_1783 : ins 261 1783 = some (.aload_n 0, 1) := by decide +kernel
theorem i_261_1784 : ins 261 1784 = some (.iload_n 3, 1) := by decide +kernel
theorem i_261_1785 : ins 261 1785 = some (.iconst 1, 1) := by decide +kernel
theorem i_261_1786 : ins 261 1786 = some (.iadd, 1) := by decide +kernel
theorem i_261_1787 : ins 261 1787 = some (.iaload, 1) := by decide +kernel
theorem i_261_1788 : ins 261 1788 = some (.aload_n 0, 1) := by decide +kernel
theorem i_261_1789 : ins 261 1789 = some (.iload_n 3, 1) := by decide +kernel
theorem i_261_1790 : ins 261 1790 = some (.iconst 2, 1) := by decide +kernel
theorem i_261_1791 : ins 261 1791 = some (.iadd, 1) := by decide +kernel
theorem i_261_1792 : ins 261 1792 = some (.iaload, 1) := by decide +kernel
theorem v_261_172 : inv 261 172 = some (196, 2, 1, 7340134) := by decide +kernel
theorem i_261_1793 : ins 261 1793 = some (.invokevirtual 172, 3) := by decide +kernel
theorem i_261_1796 : ins 261 1796 = some (.if_icmp .eq 29, 3) := by decide +kernel
theorem t_1796_1825 : tg 1796 (29) = some 1825 := by decide +kernel
theorem i_261_1799 : ins 261 1799 = some (.iconst 0, 1) := by decide +kernel
theorem i_261_1800 : ins 261 1800 = some (.ireturn, 1) := by decide +kernel
theorem i_261_1801 : ins 261 1801 = some (.aload_n 1, 1) := by decide +kernel
theorem i_261_1802 : ins 261 1802 = some (.aload_n 0, 1) := by decide +kernel
theorem i_261_1803 : ins 261 1803 = some (.iload_n 3, 1) := by decide +kernel
theorem i_261_1804 : ins 261 1804 = some (.iconst 1, 1) := by decide +kernel
theorem i_261_1805 : ins 261 1805 = some (.iadd, 1) := by decide +kernel
theorem i_261_1806 : ins 261 1806 = some (.iaload, 1) := by decide +kernel
theorem v_261_173 : inv 261 173 = some (64, 1, 1, 1048582) := by decide +kernel
theorem i_261_1807 : ins 261 1807 = some (.invokevirtual 173, 3) := by decide +kernel
theorem i_261_1810 : ins 261 1810 = some (.aload_n 2, 1) := by decide +kernel
theorem i_261_1811 : ins 261 1811 = some (.aload_n 0, 1) := by decide +kernel
theorem i_261_1812 : ins 261 1812 = some (.iload_n 3, 1) := by decide +kernel
theorem i_261_1813 : ins 261 1813 = some (.iconst 1, 1) := by decide +kernel
theorem i_261_1814 : ins 261 1814 = some (.iadd, 1) := by decide +kernel
theorem i_261_1815 : ins 261 1815 = some (.iaload, 1) := by decide +kernel
theorem v_261_176 : inv 261 176 = some (197, 1, 1, 7340134) := by decide +kernel
theorem i_261_1816 : ins 261 1816 = some (.invokevirtual 176, 3) := by decide +kernel
theorem t_1820_1825 : tg 1820 (5) = some 1825 := by decide +kernel
theorem i_261_1819 : ins 261 1819 = some (.lcmp, 1) := by decide +kernel
theorem i_261_1820 : ins 261 1820 = some (.ifCond .eq 5, 3) := by decide +kernel
theorem i_261_1823 : ins 261 1823 = some (.iconst 0, 1) := by decide +kernel
theorem i_261_1824 : ins 261 1824 = some (.ireturn, 1) := by decide +kernel
theorem kI_8 : Int32.ofInt (8) = nI 8 := by decide +kernel
theorem i_261_1825 : ins 261 1825 = some (.iinc 3 8, 3) := by decide +kernel
theorem i_261_1828 : ins 261 1828 = some (.goto (-1810), 3) := by decide +kernel
theorem t_1828_18 : tg 1828 (-1810) = some 18 := by decide +kernel
theorem i_261_1831 : ins 261 1831 = some (.iconst 1, 1) := by decide +kernel
theorem i_261_1832 : ins 261 1832 = some (.ireturn, 1) := by decide +kernel
