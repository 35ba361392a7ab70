/-! facts for the blocks (printed by genblk.py) -/
set_option maxRecDepth 100000
theorem i_161_264 : ins 161 264 = some (.iaload, 1) := by decide +kernel
theorem i_161_265 : ins 161 265 = some (.aload_n 0, 1) := by decide +kernel
theorem i_161_266 : ins 161 266 = some (.getfield 152, 3) := by decide +kernel
theorem i_161_269 : ins 161 269 = some (.iload 12, 2) := by decide +kernel
theorem i_161_271 : ins 161 271 = some (.iaload, 1) := by decide +kernel
theorem i_161_272 : ins 161 272 = some (.iload 4, 2) := by decide +kernel
theorem v_161_569 : inv 161 569 = some (162, 3, 1, 7340134) := by decide +kernel
theorem i_161_274 : ins 161 274 = some (.invokevirtual 569, 3) := by decide +kernel
theorem i_161_277 : ins 161 277 = some (.lstore 13, 2) := by decide +kernel
theorem i_161_279 : ins 161 279 = some (.lload 13, 2) := by decide +kernel
theorem i_161_281 : ins 161 281 = some (.lconst 0, 1) := by decide +kernel
theorem t_283_290 : tg 283 (7) = some 290 := by decide +kernel
theorem i_161_282 : ins 161 282 = some (.lcmp, 1) := by decide +kernel
theorem i_161_283 : ins 161 283 = some (.ifCond .ne 7, 3) := by decide +kernel
theorem i_161_286 : ins 161 286 = some (.lconst 0, 1) := by decide +kernel
theorem i_161_287 : ins 161 287 = some (.goto 26, 3) := by decide +kernel
theorem t_287_313 : tg 287 (26) = some 313 := by decide +kernel
theorem i_161_290 : ins 161 290 = some (.lload 13, 2) := by decide +kernel
theorem i_161_292 : ins 161 292 = some (.aload_n 0, 1) := by decide +kernel
theorem i_161_293 : ins 161 293 = some (.getfield 164, 3) := by decide +kernel
theorem i_161_296 : ins 161 296 = some (.iload 8, 2) := by decide +kernel
theorem i_161_298 : ins 161 298 = some (.iconst 1, 1) := by decide +kernel
theorem i_161_299 : ins 161 299 = some (.iadd, 1) := by decide +kernel
theorem i_161_300 : ins 161 300 = some (.bipush 10, 2) := by decide +kernel
theorem i_161_302 : ins 161 302 = some (.ishl, 1) := by decide +kernel
theorem i_161_303 : ins 161 303 = some (.iload 9, 2) := by decide +kernel
theorem i_161_305 : ins 161 305 = some (.iconst 1, 1) := by decide +kernel
theorem i_161_306 : ins 161 306 = some (.iload 12, 2) := by decide +kernel
theorem i_161_308 : ins 161 308 = some (.ishl, 1) := by decide +kernel
theorem i_161_309 : ins 161 309 = some (.ior, 1) := by decide +kernel
theorem i_161_310 : ins 161 310 = some (.iadd, 1) := by decide +kernel
theorem i_161_311 : ins 161 311 = some (.laload, 1) := by decide +kernel
theorem i_161_312 : ins 161 312 = some (.ladd, 1) := by decide +kernel
theorem i_161_313 : ins 161 313 = some (.lstore 15, 2) := by decide +kernel
theorem i_161_315 : ins 161 315 = some (.lload 15, 2) := by decide +kernel
theorem i_161_317 : ins 161 317 = some (.lload 10, 2) := by decide +kernel
theorem t_320_328 : tg 320 (8) = some 328 := by decide +kernel
theorem i_161_319 : ins 161 319 = some (.lcmp, 1) := by decide +kernel
theorem i_161_320 : ins 161 320 = some (.ifCond .le 8, 3) := by decide +kernel
theorem i_161_323 : ins 161 323 = some (.lload 15, 2) := by decide +kernel
theorem i_161_325 : ins 161 325 = some (.goto 5, 3) := by decide +kernel
theorem t_325_330 : tg 325 (5) = some 330 := by decide +kernel
theorem i_161_328 : ins 161 328 = some (.lload 10, 2) := by decide +kernel
theorem i_161_330 : ins 161 330 = some (.lstore 10, 2) := by decide +kernel
theorem i_161_332 : ins 161 332 = some (.iinc 12 1, 3) := by decide +kernel
theorem i_161_335 : ins 161 335 = some (.goto (-100), 3) := by decide +kernel
theorem t_335_235 : tg 335 (-100) = some 235 := by decide +kernel
theorem i_161_338 : ins 161 338 = some (.aload_n 0, 1) := by decide +kernel
theorem i_161_339 : ins 161 339 = some (.getfield 164, 3) := by decide +kernel
theorem i_161_342 : ins 161 342 = some (.iload 8, 2) := by decide +kernel
theorem i_161_344 : ins 161 344 = some (.bipush 10, 2) := by decide +kernel
theorem i_161_346 : ins 161 346 = some (.ishl, 1) := by decide +kernel
theorem i_161_347 : ins 161 347 = some (.iload 9, 2) := by decide +kernel
theorem i_161_349 : ins 161 349 = some (.iadd, 1) := by decide +kernel
theorem i_161_350 : ins 161 350 = some (.lload 10, 2) := by decide +kernel
theorem i_161_352 : ins 161 352 = some (.lastore, 1) := by decide +kernel
theorem i_161_353 : ins 161 353 = some (.iinc 9 1, 3) := by decide +kernel
theorem i_161_356 : ins 161 356 = some (.goto (-150), 3) := by decide +kernel
theorem t_356_206 : tg 356 (-150) = some 206 := by decide +kernel
theorem i_161_359 : ins 161 359 = some (.iinc 8 (-1), 3) := by decide +kernel
theorem i_161_362 : ins 161 362 = some (.goto (-164), 3) := by decide +kernel
theorem t_362_198 : tg 362 (-164) = some 198 := by decide +kernel
theorem i_161_365 : ins 161 365 = some (.iconst 0, 1) := by decide +kernel
theorem i_161_366 : ins 161 366 = some (.istore 8, 2) := by decide +kernel
theorem i_161_368 : ins 161 368 = some (.iconst 0, 1) := by decide +kernel
theorem i_161_369 : ins 161 369 = some (.istore 9, 2) := by decide +kernel
theorem i_161_371 : ins 161 371 = some (.iconst 0, 1) := by decide +kernel
theorem i_161_372 : ins 161 372 = some (.istore 10, 2) := by decide +kernel
theorem i_161_374 : ins 161 374 = some (.iload 10, 2) := by decide +kernel
theorem i_161_376 : ins 161 376 = some (.iconst 3, 1) := by decide +kernel
theorem i_161_377 : ins 161 377 = some (.if_icmp .ge 17, 3) := by decide +kernel
theorem t_377_394 : tg 377 (17) = some 394 := by decide +kernel
theorem i_161_380 : ins 161 380 = some (.aload_n 0, 1) := by decide +kernel
theorem f_161_167 : fld 161 167 = some (7340134, 72, 2) := by decide +kernel
theorem i_161_381 : ins 161 381 = some (.getfield 167, 3) := by decide +kernel
theorem i_161_384 : ins 161 384 = some (.iload 10, 2) := by decide +kernel
theorem i_161_386 : ins 161 386 = some (.lconst 0, 1) := by decide +kernel
theorem kl_124780596 : klen 124780596 = 3 := by decide +kernel
theorem i_161_387 : ins 161 387 = some (.lastore, 1) := by decide +kernel
theorem i_161_388 : ins 161 388 = some (.iinc 10 1, 3) := by decide +kernel
theorem i_161_391 : ins 161 391 = some (.goto (-17), 3) := by decide +kernel
theorem t_391_374 : tg 391 (-17) = some 374 := by decide +kernel
theorem i_161_394 : ins 161 394 = some (.iconst 0, 1) := by decide +kernel
theorem i_161_395 : ins 161 395 = some (.istore 10, 2) := by decide +kernel
theorem i_161_397 : ins 161 397 = some (.iload 10, 2) := by decide +kernel
theorem i_161_399 : ins 161 399 = some (.iload 6, 2) := by decide +kernel
theorem i_161_401 : ins 161 401 = some (.if_icmp .ge 278, 3) := by decide +kernel
theorem t_401_679 : tg 401 (278) = some 679 := by decide +kernel
theorem i_161_404 : ins 161 404 = some (.aload_n 0, 1) := by decide +kernel
theorem f_161_158 : fld 161 158 = some (7340134, 69, 2) := by decide +kernel
theorem i_161_405 : ins 161 405 = some (.getfield 158, 3) := by decide +kernel
theorem i_161_408 : ins 161 408 = some (.iload 10, 2) := by decide +kernel
theorem i_161_410 : ins 161 410 = some (.aload_n 0, 1) := by decide +kernel
theorem i_161_411 : ins 161 411 = some (.getfield 149, 3) := by decide +kernel
theorem i_161_414 : ins 161 414 = some (.iload 10, 2) := by decide +kernel
theorem i_161_416 : ins 161 416 = some (.iaload, 1) := by decide +kernel
theorem kl_121634945 : klen 121634945 = 8 := by decide +kernel
theorem i_161_417 : ins 161 417 = some (.iastore, 1) := by decide +kernel
theorem i_161_418 : ins 161 418 = some (.aload_n 0, 1) := by decide +kernel
theorem f_161_161 : fld 161 161 = some (7340134, 70, 2) := by decide +kernel
theorem i_161_419 : ins 161 419 = some (.getfield 161, 3) := by decide +kernel
theorem i_161_422 : ins 161 422 = some (.iload 10, 2) := by decide +kernel
theorem i_161_424 : ins 161 424 = some (.iconst (-1), 1) := by decide +kernel
theorem kl_122683521 : klen 122683521 = 8 := by decide +kernel
theorem i_161_425 : ins 161 425 = some (.iastore, 1) := by decide +kernel
theorem i_161_426 : ins 161 426 = some (.iconst (-1), 1) := by decide +kernel
theorem i_161_427 : ins 161 427 = some (.istore 11, 2) := by decide +kernel
theorem i_161_429 : ins 161 429 = some (.iconst 0, 1) := by decide +kernel
theorem i_161_430 : ins 161 430 = some (.istore 12, 2) := by decide +kernel
theorem i_161_432 : ins 161 432 = some (.iload 12, 2) := by decide +kernel
theorem i_161_434 : ins 161 434 = some (.iload 7, 2) := by decide +kernel
theorem i_161_436 : ins 161 436 = some (.if_icmp .ge 107, 3) := by decide +kernel
theorem t_436_543 : tg 436 (107) = some 543 := by decide +kernel
theorem i_161_439 : ins 161 439 = some (.iload 11, 2) := by decide +kernel
theorem i_161_441 : ins 161 441 = some (.iconst (-1), 1) := by decide +kernel
theorem i_161_442 : ins 161 442 = some (.if_icmp .ne 101, 3) := by decide +kernel
theorem t_442_543 : tg 442 (101) = some 543 := by decide +kernel
theorem i_161_445 : ins 161 445 = some (.iload 8, 2) := by decide +kernel
theorem i_161_447 : ins 161 447 = some (.iload 12, 2) := by decide +kernel
theorem i_161_449 : ins 161 449 = some (.ishr, 1) := by decide +kernel
theorem i_161_450 : ins 161 450 = some (.iconst 1, 1) := by decide +kernel
theorem i_161_451 : ins 161 451 = some (.iand, 1) := by decide +kernel
theorem i_161_452 : ins 161 452 = some (.iconst 1, 1) := by decide +kernel
theorem i_161_453 : ins 161 453 = some (.if_icmp .ne 7, 3) := by decide +kernel
theorem t_453_460 : tg 453 (7) = some 460 := by decide +kernel
theorem i_161_456 : ins 161 456 = some (.lconst 0, 1) := by decide +kernel
theorem i_161_457 : ins 161 457 = some (.goto 23, 3) := by decide +kernel
theorem t_457_480 : tg 457 (23) = some 480 := by decide +kernel
theorem i_161_460 : ins 161 460 = some (.aload_n 0, 1) := by decide +kernel
theorem i_161_461 : ins 161 461 = some (.aload_n 0, 1) := by decide +kernel
theorem i_161_462 : ins 161 462 = some (.getfield 149, 3) := by decide +kernel
theorem i_161_465 : ins 161 465 = some (.iload 10, 2) := by decide +kernel
theorem i_161_467 : ins 161 467 = some (.iaload, 1) := by decide +kernel
theorem i_161_468 : ins 161 468 = some (.aload_n 0, 1) := by decide +kernel
theorem i_161_469 : ins 161 469 = some (.getfield 152, 3) := by decide +kernel
theorem i_161_472 : ins 161 472 = some (.iload 12, 2) := by decide +kernel
theorem i_161_474 : ins 161 474 = some (.iaload, 1) := by decide +kernel
theorem i_161_475 : ins 161 475 = some (.iload 4, 2) := by decide +kernel
theorem i_161_477 : ins 161 477 = some (.invokevirtual 569, 3) := by decide +kernel
theorem i_161_480 : ins 161 480 = some (.lstore 13, 2) := by decide +kernel
theorem i_161_482 : ins 161 482 = some (.lload 13, 2) := by decide +kernel
theorem i_161_484 : ins 161 484 = some (.lconst 0, 1) := by decide +kernel
theorem t_486_534 : tg 486 (48) = some 534 := by decide +kernel
theorem i_161_485 : ins 161 485 = some (.lcmp, 1) := by decide +kernel
theorem i_161_486 : ins 161 486 = some (.ifCond .le 48, 3) := by decide +kernel
theorem i_161_489 : ins 161 489 = some (.lload 13, 2) := by decide +kernel
theorem i_161_491 : ins 161 491 = some (.aload_n 0, 1) := by decide +kernel
theorem i_161_492 : ins 161 492 = some (.getfield 164, 3) := by decide +kernel
theorem i_161_495 : ins 161 495 = some (.iload 10, 2) := by decide +kernel
theorem i_161_497 : ins 161 497 = some (.iconst 1, 1) := by decide +kernel
theorem i_161_498 : ins 161 498 = some (.iadd, 1) := by decide +kernel
theorem i_161_499 : ins 161 499 = some (.bipush 10, 2) := by decide +kernel
theorem i_161_501 : ins 161 501 = some (.ishl, 1) := by decide +kernel
theorem i_161_502 : ins 161 502 = some (.iload 8, 2) := by decide +kernel
theorem i_161_504 : ins 161 504 = some (.iconst 1, 1) := by decide +kernel
theorem i_161_505 : ins 161 505 = some (.iload 12, 2) := by decide +kernel
theorem i_161_507 : ins 161 507 = some (.ishl, 1) := by decide +kernel
theorem i_161_508 : ins 161 508 = some (.ior, 1) := by decide +kernel
theorem i_161_509 : ins 161 509 = some (.iadd, 1) := by decide +kernel
theorem i_161_510 : ins 161 510 = some (.laload, 1) := by decide +kernel
theorem i_161_511 : ins 161 511 = some (.ladd, 1) := by decide +kernel
theorem i_161_512 : ins 161 512 = some (.aload_n 0, 1) := by decide +kernel
theorem i_161_513 : ins 161 513 = some (.getfield 164, 3) := by decide +kernel
theorem i_161_516 : ins 161 516 = some (.iload 10, 2) := by decide +kernel
theorem i_161_518 : ins 161 518 = some (.bipush 10, 2) := by decide +kernel
theorem i_161_520 : ins 161 520 = some (.ishl, 1) := by decide +kernel
theorem i_161_521 : ins 161 521 = some (.iload 8, 2) := by decide +kernel
theorem i_161_523 : ins 161 523 = some (.iadd, 1) := by decide +kernel
theorem i_161_524 : ins 161 524 = some (.laload, 1) := by decide +kernel
theorem t_526_534 : tg 526 (8) = some 534 := by decide +kernel
theorem i_161_525 : ins 161 525 = some (.lcmp, 1) := by decide +kernel
theorem i_161_526 : ins 161 526 = some (.ifCond .ne 8, 3) := by decide +kernel
theorem i_161_529 : ins 161 529 = some (.iload 12, 2) := by decide +kernel
theorem i_161_531 : ins 161 531 = some (.goto 4, 3) := by decide +kernel
theorem t_531_535 : tg 531 (4) = some 535 := by decide +kernel
theorem i_161_534 : ins 161 534 = some (.iconst (-1), 1) := by decide +kernel
theorem i_161_535 : ins 161 535 = some (.istore 11, 2) := by decide +kernel
theorem i_161_537 : ins 161 537 = some (.iinc 12 1, 3) := by decide +kernel
theorem i_161_540 : ins 161 540 = some (.goto (-108), 3) := by decide +kernel
theorem t_540_432 : tg 540 (-108) = some 432 := by decide +kernel
theorem i_161_543 : ins 161 543 = some (.iload 11, 2) := by decide +kernel
theorem i_161_545 : ins 161 545 = some (.iconst (-1), 1) := by decide +kernel
theorem i_161_546 : ins 161 546 = some (.if_icmp .eq 127, 3) := by decide +kernel
theorem t_546_673 : tg 546 (127) = some 673 := by decide +kernel
theorem i_161_549 : ins 161 549 = some (.iload 8, 2) := by decide +kernel
theorem i_161_551 : ins 161 551 = some (.iconst 1, 1) := by decide +kernel
theorem i_161_552 : ins 161 552 = some (.iload 11, 2) := by decide +kernel
theorem i_161_554 : ins 161 554 = some (.ishl, 1) := by decide +kernel
theorem i_161_555 : ins 161 555 = some (.ior, 1) := by decide +kernel
theorem i_161_556 : ins 161 556 = some (.istore 8, 2) := by decide +kernel
theorem i_161_558 : ins 161 558 = some (.iinc 9 1, 3) := by decide +kernel
theorem i_161_561 : ins 161 561 = some (.aload_n 0, 1) := by decide +kernel
theorem i_161_562 : ins 161 562 = some (.getfield 161, 3) := by decide +kernel
theorem i_161_565 : ins 161 565 = some (.iload 10, 2) := by decide +kernel
theorem i_161_567 : ins 161 567 = some (.aload_n 0, 1) := by decide +kernel
theorem i_161_568 : ins 161 568 = some (.getfield 152, 3) := by decide +kernel
theorem i_161_571 : ins 161 571 = some (.iload 11, 2) := by decide +kernel
theorem i_161_573 : ins 161 573 = some (.iaload, 1) := by decide +kernel
theorem i_161_574 : ins 161 574 = some (.iastore, 1) := by decide +kernel
theorem i_161_575 : ins 161 575 = some (.aload_n 0, 1) := by decide +kernel
theorem i_161_576 : ins 161 576 = some (.getfield 167, 3) := by decide +kernel
theorem i_161_579 : ins 161 579 = some (.iconst 0, 1) := by decide +kernel
theorem i_161_580 : ins 161 580 = some (.dup2, 1) := by decide +kernel
theorem i_161_581 : ins 161 581 = some (.laload, 1) := by decide +kernel
theorem i_161_582 : ins 161 582 = some (.aload_n 0, 1) := by decide +kernel
theorem f_161_13 : fld 161 13 = some (7340134, 5, 2) := by decide +kernel
theorem i_161_583 : ins 161 583 = some (.getfield 13, 3) := by decide +kernel
theorem i_161_586 : ins 161 586 = some (.bipush 16, 2) := by decide +kernel
theorem i_161_588 : ins 161 588 = some (.aload_n 0, 1) := by decide +kernel
theorem f_161_34 : fld 161 34 = some (7340134, 14, 2) := by decide +kernel
theorem i_161_589 : ins 161 589 = some (.getfield 34, 3) := by decide +kernel
theorem i_161_592 : ins 161 592 = some (.aload_n 0, 1) := by decide +kernel
theorem i_161_593 : ins 161 593 = some (.getfield 149, 3) := by decide +kernel
theorem i_161_596 : ins 161 596 = some (.iload 10, 2) := by decide +kernel
theorem i_161_598 : ins 161 598 = some (.iaload, 1) := by decide +kernel
theorem i_161_599 : ins 161 599 = some (.iaload, 1) := by decide +kernel
theorem i_161_600 : ins 161 600 = some (.imul, 1) := by decide +kernel
theorem i_161_601 : ins 161 601 = some (.aload_n 0, 1) := by decide +kernel
theorem i_161_602 : ins 161 602 = some (.getfield 34, 3) := by decide +kernel
theorem i_161_605 : ins 161 605 = some (.aload_n 0, 1) := by decide +kernel
theorem i_161_606 : ins 161 606 = some (.getfield 152, 3) := by decide +kernel
theorem i_161_609 : ins 161 609 = some (.iload 11, 2) := by decide +kernel
theorem i_161_611 : ins 161 611 = some (.iaload, 1) := by decide +kernel
theorem i_161_612 : ins 161 612 = some (.iaload, 1) := by decide +kernel
theorem i_161_613 : ins 161 613 = some (.iadd, 1) := by decide +kernel
theorem i_161_614 : ins 161 614 = some (.iaload, 1) := by decide +kernel
theorem i_161_615 : ins 161 615 = some (.i2l, 1) := by decide +kernel
theorem i_161_616 : ins 161 616 = some (.ladd, 1) := by decide +kernel
theorem i_161_617 : ins 161 617 = some (.lastore, 1) := by decide +kernel
theorem i_161_618 : ins 161 618 = some (.aload_n 0, 1) := by decide +kernel
theorem i_161_619 : ins 161 619 = some (.getfield 167, 3) := by decide +kernel
theorem i_161_622 : ins 161 622 = some (.iconst 1, 1) := by decide +kernel
theorem i_161_623 : ins 161 623 = some (.dup2, 1) := by decide +kernel
theorem i_161_624 : ins 161 624 = some (.laload, 1) := by decide +kernel
theorem i_161_625 : ins 161 625 = some (.aload_n 0, 1) := by decide +kernel
theorem i_161_626 : ins 161 626 = some (.aload_n 0, 1) := by decide +kernel
theorem i_161_627 : ins 161 627 = some (.getfield 149, 3) := by decide +kernel
theorem i_161_630 : ins 161 630 = some (.iload 10, 2) := by decide +kernel
theorem i_161_632 : ins 161 632 = some (.iaload, 1) := by decide +kernel
theorem i_161_633 : ins 161 633 = some (.aload_n 0, 1) := by decide +kernel
theorem i_161_634 : ins 161 634 = some (.getfield 152, 3) := by decide +kernel
theorem i_161_637 : ins 161 637 = some (.iload 11, 2) := by decide +kernel
theorem i_161_639 : ins 161 639 = some (.iaload, 1) := by decide +kernel
theorem v_161_558 : inv 161 558 = some (163, 2, 1, 7340134) := by decide +kernel
theorem i_161_640 : ins 161 640 = some (.invokevirtual 558, 3) := by decide +kernel
theorem i_161_643 : ins 161 643 = some (.i2l, 1) := by decide +kernel
theorem i_161_644 : ins 161 644 = some (.ladd, 1) := by decide +kernel
theorem i_161_645 : ins 161 645 = some (.lastore, 1) := by decide +kernel
theorem i_161_646 : ins 161 646 = some (.aload_n 0, 1) := by decide +kernel
theorem i_161_647 : ins 161 647 = some (.getfield 167, 3) := by decide +kernel
theorem i_161_650 : ins 161 650 = some (.iconst 2, 1) := by decide +kernel
theorem i_161_651 : ins 161 651 = some (.dup2, 1) := by decide +kernel
theorem i_161_652 : ins 161 652 = some (.laload, 1) := by decide +kernel
theorem i_161_653 : ins 161 653 = some (.aload_n 0, 1) := by decide +kernel
theorem i_161_654 : ins 161 654 = some (.aload_n 0, 1) := by decide +kernel
theorem i_161_655 : ins 161 655 = some (.getfield 149, 3) := by decide +kernel
theorem i_161_658 : ins 161 658 = some (.iload 10, 2) := by decide +kernel
theorem i_161_660 : ins 161 660 = some (.iaload, 1) := by decide +kernel
theorem i_161_661 : ins 161 661 = some (.aload_n 0, 1) := by decide +kernel
theorem i_161_662 : ins 161 662 = some (.getfield 152, 3) := by decide +kernel
theorem i_161_665 : ins 161 665 = some (.iload 11, 2) := by decide +kernel
theorem i_161_667 : ins 161 667 = some (.iaload, 1) := by decide +kernel
theorem v_161_565 : inv 161 565 = some (164, 2, 1, 7340134) := by decide +kernel
theorem i_161_668 : ins 161 668 = some (.invokevirtual 565, 3) := by decide +kernel
theorem i_161_671 : ins 161 671 = some (.ladd, 1) := by decide +kernel
theorem i_161_672 : ins 161 672 = some (.lastore, 1) := by decide +kernel
theorem i_161_673 : ins 161 673 = some (.iinc 10 1, 3) := by decide +kernel
theorem i_161_676 : ins 161 676 = some (.goto (-279), 3) := by decide +kernel
theorem t_676_397 : tg 676 (-279) = some 397 := by decide +kernel
theorem i_161_679 : ins 161 679 = some (.aload_n 0, 1) := by decide +kernel
theorem i_161_680 : ins 161 680 = some (.iload 6, 2) := by decide +kernel
theorem f_161_146 : fld 161 146 = some (7340134, 65, 0) := by decide +kernel
theorem o_161_7340134_65 : putok 161 7340134 65 = true := by decide +kernel
theorem i_161_682 : ins 161 682 = some (.putfield 146, 3) := by decide +kernel
theorem i_161_685 : ins 161 685 = some (.iload 9, 2) := by decide +kernel
theorem i_161_687 : ins 161 687 = some (.ireturn, 1) := by decide +kernel
theorem i_162_0 : ins 162 0 = some (.aload_n 0, 1) := by decide +kernel
theorem f_162_13 : fld 162 13 = some (7340134, 5, 2) := by decide +kernel
theorem i_162_1 : ins 162 1 = some (.getfield 13, 3) := by decide +kernel
theorem i_162_4 : ins 162 4 = some (.bipush 16, 2) := by decide +kernel
theorem i_162_6 : ins 162 6 = some (.aload_n 0, 1) := by decide +kernel
theorem f_162_34 : fld 162 34 = some (7340134, 14, 2) := by decide +kernel
theorem i_162_7 : ins 162 7 = some (.getfield 34, 3) := by decide +kernel
theorem i_162_10 : ins 162 10 = some (.iload_n 1, 1) := by decide +kernel
theorem i_162_11 : ins 162 11 = some (.iaload, 1) := by decide +kernel
theorem i_162_12 : ins 162 12 = some (.imul, 1) := by decide +kernel
theorem i_162_13 : ins 162 13 = some (.aload_n 0, 1) := by decide +kernel
theorem i_162_14 : ins 162 14 = some (.getfield 34, 3) := by decide +kernel
theorem i_162_17 : ins 162 17 = some (.iload_n 2, 1) := by decide +kernel
theorem i_162_18 : ins 162 18 = some (.iaload, 1) := by decide +kernel
theorem i_162_19 : ins 162 19 = some (.iadd, 1) := by decide +kernel
theorem i_162_20 : ins 162 20 = some (.iaload, 1) := by decide +kernel
theorem i_162_21 : ins 162 21 = some (.istore 4, 2) := by decide +kernel
theorem i_162_23 : ins 162 23 = some (.iload 4, 2) := by decide +kernel
theorem i_162_25 : ins 162 25 = some (.aload_n 0, 1) := by decide +kernel
theorem i_162_26 : ins 162 26 = some (.aload_n 0, 1) := by decide +kernel
theorem f_162_514 : fld 162 514 = some (7340134, 51, 0) := by decide +kernel
theorem i_162_27 : ins 162 27 = some (.getfield 514, 3) := by decide +kernel
theorem i_162_30 : ins 162 30 = some (.iconst 4, 1) := by decide +kernel
theorem v_162_487 : inv 162 487 = some (140, 2, 1, 7340134) := by decide +kernel
theorem i_162_31 : ins 162 31 = some (.invokevirtual 487, 3) := by decide +kernel
theorem i_162_34 : ins 162 34 = some (.if_icmp .gt 21, 3) := by decide +kernel
theorem t_34_55 : tg 34 (21) = some 55 := by decide +kernel
theorem i_162_37 : ins 162 37 = some (.aload_n 0, 1) := by decide +kernel
theorem i_162_38 : ins 162 38 = some (.iload_n 1, 1) := by decide +kernel
theorem i_162_39 : ins 162 39 = some (.iload_n 2, 1) := by decide +kernel
theorem v_162_558 : inv 162 558 = some (163, 2, 1, 7340134) := by decide +kernel
theorem i_162_40 : ins 162 40 = some (.invokevirtual 558, 3) := by decide +kernel
theorem i_162_43 : ins 162 43 = some (.aload_n 0, 1) := by decide +kernel
theorem i_162_44 : ins 162 44 = some (.aload_n 0, 1) := by decide +kernel
theorem i_162_45 : ins 162 45 = some (.getfield 514, 3) := by decide +kernel
theorem i_162_48 : ins 162 48 = some (.iconst 5, 1) := by decide +kernel
theorem i_162_49 : ins 162 49 = some (.invokevirtual 487, 3) := by decide +kernel
theorem i_162_52 : ins 162 52 = some (.if_icmp .le 5, 3) := by decide +kernel
theorem i_162_55 : ins 162 55 = some (.lconst 0, 1) := by decide +kernel
theorem i_162_56 : ins 162 56 = some (.lreturn, 1) := by decide +kernel
theorem r_162 : mret 162 = 5 := by decide +kernel
theorem i_162_57 : ins 162 57 = some (.iload_n 3, 1) := by decide +kernel
theorem i_162_58 : ins 162 58 = some (.ifCond .eq 25, 3) := by decide +kernel
theorem l_162_561 : ldcv 162 561 = some (vL (1000000)) := rfl
theorem i_162_61 : ins 162 61 = some (.ldc2_w 561, 3) := by decide +kernel
theorem l_162_535 : ldcv 162 535 = some (vL (1000)) := rfl
theorem i_162_64 : ins 162 64 = some (.ldc2_w 535, 3) := by decide +kernel
theorem i_162_67 : ins 162 67 = some (.iload 4, 2) := by decide +kernel
theorem i_162_69 : ins 162 69 = some (.i2l, 1) := by decide +kernel
theorem i_162_70 : ins 162 70 = some (.lmul, 1) := by decide +kernel
theorem i_162_71 : ins 162 71 = some (.lsub, 1) := by decide +kernel
theorem i_162_72 : ins 162 72 = some (.aload_n 0, 1) := by decide +kernel
theorem i_162_73 : ins 162 73 = some (.iload_n 1, 1) := by decide +kernel
theorem i_162_74 : ins 162 74 = some (.iload_n 2, 1) := by decide +kernel
theorem i_162_75 : ins 162 75 = some (.invokevirtual 558, 3) := by decide +kernel
theorem i_162_78 : ins 162 78 = some (.i2l, 1) := by decide +kernel
theorem i_162_79 : ins 162 79 = some (.lsub, 1) := by decide +kernel
theorem i_162_80 : ins 162 80 = some (.goto 13, 3) := by decide +kernel
theorem t_80_93 : tg 80 (13) = some 93 := by decide +kernel
theorem l_162_563 : ldcv 162 563 = some (vL (1000000000)) := rfl
theorem i_162_83 : ins 162 83 = some (.ldc2_w 563, 3) := by decide +kernel
theorem i_162_86 : ins 162 86 = some (.aload_n 0, 1) := by decide +kernel
theorem i_162_87 : ins 162 87 = some (.iload_n 1, 1) := by decide +kernel
theorem i_162_88 : ins 162 88 = some (.iload_n 2, 1) := by decide +kernel
theorem v_162_565 : inv 162 565 = some (164, 2, 1, 7340134) := by decide +kernel
theorem i_162_89 : ins 162 89 = some (.invokevirtual 565, 3) := by decide +kernel
theorem i_162_92 : ins 162 92 = some (.lsub, 1) := by decide +kernel
theorem i_162_93 : ins 162 93 = some (.lreturn, 1) := by decide +kernel
theorem i_163_0 : ins 163 0 = some (.aload_n 0, 1) := by decide +kernel
theorem i_163_1 : ins 163 1 = some (.iload_n 1, 1) := by decide +kernel
theorem v_163_505 : inv 163 505 = some (148, 1, 1, 7340134) := by decide +kernel
theorem i_163_2 : ins 163 2 = some (.invokevirtual 505, 3) := by decide +kernel
theorem i_163_5 : ins 163 5 = some (.aload_n 0, 1) := by decide +kernel
theorem i_163_6 : ins 163 6 = some (.iload_n 2, 1) := by decide +kernel
theorem i_163_7 : ins 163 7 = some (.invokevirtual 505, 3) := by decide +kernel
theorem i_163_10 : ins 163 10 = some (.if_icmp .le 17, 3) := by decide +kernel
theorem t_10_27 : tg 10 (17) = some 27 := by decide +kernel
theorem i_163_13 : ins 163 13 = some (.aload_n 0, 1) := by decide +kernel
theorem i_163_14 : ins 163 14 = some (.iload_n 1, 1) := by decide +kernel
theorem i_163_15 : ins 163 15 = some (.invokevirtual 505, 3) := by decide +kernel
theorem i_163_18 : ins 163 18 = some (.aload_n 0, 1) := by decide +kernel
theorem i_163_19 : ins 163 19 = some (.iload_n 2, 1) := by decide +kernel
theorem i_163_20 : ins 163 20 = some (.invokevirtual 505, 3) := by decide +kernel
theorem i_163_23 : ins 163 23 = some (.isub, 1) := by decide +kernel
theorem i_163_24 : ins 163 24 = some (.goto 14, 3) := by decide +kernel
theorem t_24_38 : tg 24 (14) = some 38 := by decide +kernel
theorem i_163_27 : ins 163 27 = some (.aload_n 0, 1) := by decide +kernel
theorem i_163_28 : ins 163 28 = some (.iload_n 2, 1) := by decide +kernel
theorem i_163_29 : ins 163 29 = some (.invokevirtual 505, 3) := by decide +kernel
theorem i_163_32 : ins 163 32 = some (.aload_n 0, 1) := by decide +kernel
theorem i_163_33 : ins 163 33 = some (.iload_n 1, 1) := by decide +kernel
theorem i_163_34 : ins 163 34 = some (.invokevirtual 505, 3) := by decide +kernel
theorem i_163_37 : ins 163 37 = some (.isub, 1) := by decide +kernel
theorem r_163 : mret 163 = 1 := by decide +kernel
theorem i_163_38 : ins 163 38 = some (.ireturn, 1) := by decide +kernel
theorem i_164_0 : ins 164 0 = some (.aload_n 0, 1) := by decide +kernel
theorem f_164_115 : fld 164 115 = some (7340134, 53, 2) := by decide +kernel
theorem i_164_1 : ins 164 1 = some (.getfield 115, 3) := by decide +kernel
theorem i_164_4 : ins 164 4 = some (.iload_n 2, 1) := by decide +kernel
theorem i_164_5 : ins 164 5 = some (.iaload, 1) := by decide +kernel
theorem i_164_6 : ins 164 6 = some (.aload_n 0, 1) := by decide +kernel
theorem i_164_7 : ins 164 7 = some (.getfield 115, 3) := by decide +kernel
theorem i_164_10 : ins 164 10 = some (.iload_n 1, 1) := by decide +kernel
theorem i_164_11 : ins 164 11 = some (.iaload, 1) := by decide +kernel
theorem i_164_12 : ins 164 12 = some (.isub, 1) := by decide +kernel
theorem i_164_13 : ins 164 13 = some (.i2l, 1) := by decide +kernel
theorem i_164_14 : ins 164 14 = some (.aload_n 0, 1) := by decide +kernel
theorem f_164_40 : fld 164 40 = some (7340134, 16, 2) := by decide +kernel
theorem i_164_15 : ins 164 15 = some (.getfield 40, 3) := by decide +kernel
theorem i_164_18 : ins 164 18 = some (.iload_n 1, 1) := by decide +kernel
theorem i_164_19 : ins 164 19 = some (.iaload, 1) := by decide +kernel
theorem i_164_20 : ins 164 20 = some (.i2l, 1) := by decide +kernel
theorem i_164_21 : ins 164 21 = some (.lmul, 1) := by decide +kernel
theorem i_164_22 : ins 164 22 = some (.lreturn, 1) := by decide +kernel
theorem r_164 : mret 164 = 5 := by decide +kernel
theorem i_165_0 : ins 165 0 = some (.iload_n 1, 1) := by decide +kernel
theorem i_165_1 : ins 165 1 = some (.iconst 0, 1) := by decide +kernel
theorem i_165_2 : ins 165 2 = some (.aload_n 0, 1) := by decide +kernel
theorem f_165_146 : fld 165 146 = some (7340134, 65, 0) := by decide +kernel
theorem i_165_3 : ins 165 3 = some (.getfield 146, 3) := by decide +kernel
theorem i_165_6 : ins 165 6 = some (.iconst 1, 1) := by decide +kernel
theorem i_165_7 : ins 165 7 = some (.isub, 1) := by decide +kernel
theorem v_165_260 : inv 165 260 = some (94, 3, 0, 0) := by decide +kernel
theorem i_165_8 : ins 165 8 = some (.invokestatic 260, 3) := by decide +kernel
theorem i_165_11 : ins 165 11 = some (.ifCond .ne 7, 3) := by decide +kernel
theorem i_165_14 : ins 165 14 = some (.iconst (-1), 1) := by decide +kernel
theorem i_165_15 : ins 165 15 = some (.goto 31, 3) := by decide +kernel
theorem t_15_46 : tg 15 (31) = some 46 := by decide +kernel
theorem i_165_18 : ins 165 18 = some (.iload_n 2, 1) := by decide +kernel
theorem i_165_19 : ins 165 19 = some (.ifCond .ne 12, 3) := by decide +kernel
theorem i_165_22 : ins 165 22 = some (.aload_n 0, 1) := by decide +kernel
theorem f_165_158 : fld 165 158 = some (7340134, 69, 2) := by decide +kernel
theorem i_165_23 : ins 165 23 = some (.getfield 158, 3) := by decide +kernel
theorem i_165_26 : ins 165 26 = some (.iload_n 1, 1) := by decide +kernel
theorem i_165_27 : ins 165 27 = some (.iaload, 1) := by decide +kernel
theorem i_165_28 : ins 165 28 = some (.goto 18, 3) := by decide +kernel
theorem i_165_31 : ins 165 31 = some (.iload_n 2, 1) := by decide +kernel
theorem i_165_32 : ins 165 32 = some (.iconst 1, 1) := by decide +kernel
theorem i_165_33 : ins 165 33 = some (.if_icmp .ne 12, 3) := by decide +kernel
theorem t_33_45 : tg 33 (12) = some 45 := by decide +kernel
theorem i_165_36 : ins 165 36 = some (.aload_n 0, 1) := by decide +kernel
theorem f_165_161 : fld 165 161 = some (7340134, 70, 2) := by decide +kernel
theorem i_165_37 : ins 165 37 = some (.getfield 161, 3) := by decide +kernel
theorem i_165_40 : ins 165 40 = some (.iload_n 1, 1) := by decide +kernel
theorem i_165_41 : ins 165 41 = some (.iaload, 1) := by decide +kernel
theorem i_165_42 : ins 165 42 = some (.goto 4, 3) := by decide +kernel
theorem t_42_46 : tg 42 (4) = some 46 := by decide +kernel
theorem i_165_45 : ins 165 45 = some (.iconst (-1), 1) := by decide +kernel
theorem r_165 : mret 165 = 1 := by decide +kernel
theorem i_165_46 : ins 165 46 = some (.ireturn, 1) := by decide +kernel
theorem i_166_0 : ins 166 0 = some (.aload_n 0, 1) := by decide +kernel
theorem f_166_146 : fld 166 146 = some (7340134, 65, 0) := by decide +kernel
theorem i_166_1 : ins 166 1 = some (.getfield 146, 3) := by decide +kernel
theorem i_166_4 : ins 166 4 = some (.iconst (-1), 1) := by decide +kernel
theorem i_166_5 : ins 166 5 = some (.if_icmp .eq 12, 3) := by decide +kernel
theorem t_5_17 : tg 5 (12) = some 17 := by decide +kernel
theorem i_166_8 : ins 166 8 = some (.iload_n 1, 1) := by decide +kernel
theorem i_166_9 : ins 166 9 = some (.iconst 0, 1) := by decide +kernel
theorem i_166_10 : ins 166 10 = some (.iconst 2, 1) := by decide +kernel
theorem v_166_260 : inv 166 260 = some (94, 3, 0, 0) := by decide +kernel
theorem i_166_11 : ins 166 11 = some (.invokestatic 260, 3) := by decide +kernel
theorem i_166_14 : ins 166 14 = some (.ifCond .ne 9, 3) := by decide +kernel
theorem t_14_23 : tg 14 (9) = some 23 := by decide +kernel
theorem l_166_552 : ldcv 166 552 = some (vL (-9000000000000000000)) := rfl
theorem i_166_17 : ins 166 17 = some (.ldc2_w 552, 3) := by decide +kernel
theorem i_166_20 : ins 166 20 = some (.goto 9, 3) := by decide +kernel
theorem t_20_29 : tg 20 (9) = some 29 := by decide +kernel
theorem i_166_23 : ins 166 23 = some (.aload_n 0, 1) := by decide +kernel
theorem f_166_167 : fld 166 167 = some (7340134, 72, 2) := by decide +kernel
theorem i_166_24 : ins 166 24 = some (.getfield 167, 3) := by decide +kernel
theorem i_166_27 : ins 166 27 = some (.iload_n 1, 1) := by decide +kernel
theorem i_166_28 : ins 166 28 = some (.laload, 1) := by decide +kernel
theorem i_166_29 : ins 166 29 = some (.lreturn, 1) := by decide +kernel
theorem r_166 : mret 166 = 5 := by decide +kernel
theorem i_167_0 : ins 167 0 = some (.aload_n 0, 1) := by decide +kernel
theorem i_167_1 : ins 167 1 = some (.iload_n 1, 1) := by decide +kernel
theorem i_167_2 : ins 167 2 = some (.iload 4, 2) := by decide +kernel
theorem i_167_4 : ins 167 4 = some (.iload 5, 2) := by decide +kernel
theorem v_167_549 : inv 167 549 = some (157, 3, 1, 7340134) := by decide +kernel
theorem i_167_6 : ins 167 6 = some (.invokevirtual 549, 3) := by decide +kernel
theorem i_167_9 : ins 167 9 = some (.ifCond .eq 37, 3) := by decide +kernel
theorem t_9_46 : tg 9 (37) = some 46 := by decide +kernel
theorem i_167_12 : ins 167 12 = some (.aload_n 0, 1) := by decide +kernel
theorem f_167_170 : fld 167 170 = some (7340134, 73, 2) := by decide +kernel
theorem i_167_13 : ins 167 13 = some (.getfield 170, 3) := by decide +kernel
theorem i_167_16 : ins 167 16 = some (.iload_n 1, 1) := by decide +kernel
theorem kl_125829313 : klen 125829313 = 12 := by decide +kernel
theorem i_167_17 : ins 167 17 = some (.iaload, 1) := by decide +kernel
theorem i_167_18 : ins 167 18 = some (.bipush 10, 2) := by decide +kernel
theorem i_167_20 : ins 167 20 = some (.if_icmp .eq 26, 3) := by decide +kernel
theorem t_20_46 : tg 20 (26) = some 46 := by decide +kernel
theorem i_167_23 : ins 167 23 = some (.iload_n 3, 1) := by decide +kernel
theorem i_167_24 : ins 167 24 = some (.iconst 1, 1) := by decide +kernel
theorem l_167_573 : ldcv 167 573 = some (vI (nI 65535)) := rfl
theorem i_167_25 : ins 167 25 = some (.ldc_w 573, 3) := by decide +kernel
theorem v_167_260 : inv 167 260 = some (94, 3, 0, 0) := by decide +kernel
theorem i_167_28 : ins 167 28 = some (.invokestatic 260, 3) := by decide +kernel
theorem i_167_31 : ins 167 31 = some (.ifCond .eq 15, 3) := by decide +kernel
theorem t_31_46 : tg 31 (15) = some 46 := by decide +kernel
theorem i_167_34 : ins 167 34 = some (.iload 6, 2) := by decide +kernel
theorem i_167_36 : ins 167 36 = some (.iconst 0, 1) := by decide +kernel
theorem l_167_411 : ldcv 167 411 = some (vI (nI 99999)) := rfl
theorem i_167_37 : ins 167 37 = some (.ldc_w 411, 3) := by decide +kernel
theorem i_167_40 : ins 167 40 = some (.invokestatic 260, 3) := by decide +kernel
theorem i_167_43 : ins 167 43 = some (.ifCond .ne 5, 3) := by decide +kernel
theorem t_43_48 : tg 43 (5) = some 48 := by decide +kernel
theorem i_167_46 : ins 167 46 = some (.iconst (-1), 1) := by decide +kernel
theorem r_167 : mret 167 = 1 := by decide +kernel
theorem i_167_47 : ins 167 47 = some (.ireturn, 1) := by decide +kernel
theorem i_167_48 : ins 167 48 = some (.bipush 10, 2) := by decide +kernel
theorem i_167_50 : ins 167 50 = some (.iload_n 1, 1) := by decide +kernel
theorem i_167_51 : ins 167 51 = some (.imul, 1) := by decide +kernel
theorem i_167_52 : ins 167 52 = some (.aload_n 0, 1) := by decide +kernel
theorem i_167_53 : ins 167 53 = some (.getfield 170, 3) := by decide +kernel
theorem i_167_56 : ins 167 56 = some (.iload_n 1, 1) := by decide +kernel
theorem i_167_57 : ins 167 57 = some (.iaload, 1) := by decide +kernel
theorem i_167_58 : ins 167 58 = some (.iadd, 1) := by decide +kernel
theorem i_167_59 : ins 167 59 = some (.istore 7, 2) := by decide +kernel
theorem i_167_61 : ins 167 61 = some (.aload_n 0, 1) := by decide +kernel
theorem f_167_194 : fld 167 194 = some (7340134, 81, 2) := by decide +kernel
theorem i_167_62 : ins 167 62 = some (.getfield 194, 3) := by decide +kernel
theorem i_167_65 : ins 167 65 = some (.iload 7, 2) := by decide +kernel
theorem i_167_67 : ins 167 67 = some (.iload_n 2, 1) := by decide +kernel
theorem kl_134219651 : klen 134219651 = 120 := by decide +kernel
theorem i_167_68 : ins 167 68 = some (.bastore, 1) := by decide +kernel
theorem i_167_69 : ins 167 69 = some (.aload_n 0, 1) := by decide +kernel
theorem f_167_173 : fld 167 173 = some (7340134, 74, 2) := by decide +kernel
theorem i_167_70 : ins 167 70 = some (.getfield 173, 3) := by decide +kernel
theorem i_167_73 : ins 167 73 = some (.iload 7, 2) := by decide +kernel
theorem i_167_75 : ins 167 75 = some (.iload_n 3, 1) := by decide +kernel
theorem kl_126879617 : klen 126879617 = 120 := by decide +kernel
theorem i_167_76 : ins 167 76 = some (.iastore, 1) := by decide +kernel
theorem i_167_77 : ins 167 77 = some (.aload_n 0, 1) := by decide +kernel
theorem f_167_176 : fld 167 176 = some (7340134, 75, 2) := by decide +kernel
theorem i_167_78 : ins 167 78 = some (.getfield 176, 3) := by decide +kernel
theorem i_167_81 : ins 167 81 = some (.iload 7, 2) := by decide +kernel
theorem i_167_83 : ins 167 83 = some (.iload 4, 2) := by decide +kernel
theorem kl_127928193 : klen 127928193 = 120 := by decide +kernel
theorem i_167_85 : ins 167 85 = some (.iastore, 1) := by decide +kernel
theorem i_167_86 : ins 167 86 = some (.aload_n 0, 1) := by decide +kernel
theorem f_167_179 : fld 167 179 = some (7340134, 76, 2) := by decide +kernel
theorem i_167_87 : ins 167 87 = some (.getfield 179, 3) := by decide +kernel
theorem i_167_90 : ins 167 90 = some (.iload 7, 2) := by decide +kernel
theorem i_167_92 : ins 167 92 = some (.iload 5, 2) := by decide +kernel
theorem kl_128976769 : klen 128976769 = 120 := by decide +kernel
theorem i_167_94 : ins 167 94 = some (.iastore, 1) := by decide +kernel
theorem i_167_95 : ins 167 95 = some (.aload_n 0, 1) := by decide +kernel
theorem f_167_182 : fld 167 182 = some (7340134, 77, 2) := by decide +kernel
theorem i_167_96 : ins 167 96 = some (.getfield 182, 3) := by decide +kernel
theorem i_167_99 : ins 167 99 = some (.iload 7, 2) := by decide +kernel
theorem i_167_101 : ins 167 101 = some (.iload 6, 2) := by decide +kernel
theorem kl_130025345 : klen 130025345 = 120 := by decide +kernel
theorem i_167_103 : ins 167 103 = some (.iastore, 1) := by decide +kernel
theorem i_167_104 : ins 167 104 = some (.aload_n 0, 1) := by decide +kernel
theorem i_167_105 : ins 167 105 = some (.getfield 170, 3) := by decide +kernel
theorem i_167_108 : ins 167 108 = some (.iload_n 1, 1) := by decide +kernel
theorem i_167_109 : ins 167 109 = some (.dup2, 1) := by decide +kernel
theorem i_167_110 : ins 167 110 = some (.iaload, 1) := by decide +kernel
theorem i_167_111 : ins 167 111 = some (.iconst 1, 1) := by decide +kernel
theorem i_167_112 : ins 167 112 = some (.iadd, 1) := by decide +kernel
theorem i_167_113 : ins 167 113 = some (.iastore, 1) := by decide +kernel
theorem i_167_114 : ins 167 114 = some (.aload_n 0, 1) := by decide +kernel
theorem i_167_115 : ins 167 115 = some (.getfield 170, 3) := by decide +kernel
theorem i_167_118 : ins 167 118 = some (.iload_n 1, 1) := by decide +kernel
theorem i_167_119 : ins 167 119 = some (.iaload, 1) := by decide +kernel
theorem i_167_120 : ins 167 120 = some (.iconst 1, 1) := by decide +kernel
theorem i_167_121 : ins 167 121 = some (.isub, 1) := by decide +kernel
theorem i_167_122 : ins 167 122 = some (.ireturn, 1) := by decide +kernel
theorem i_168_0 : ins 168 0 = some (.aload_n 0, 1) := by decide +kernel
theorem i_168_1 : ins 168 1 = some (.iload_n 1, 1) := by decide +kernel
theorem v_168_277 : inv 168 277 = some (99, 1, 1, 7340134) := by decide +kernel
theorem i_168_2 : ins 168 2 = some (.invokevirtual 277, 3) := by decide +kernel
theorem i_168_5 : ins 168 5 = some (.ifCond .eq 19, 3) := by decide +kernel
theorem i_168_8 : ins 168 8 = some (.iload_n 2, 1) := by decide +kernel
theorem v_168_283 : inv 168 283 = some (102, 1, 0, 0) := by decide +kernel
theorem i_168_9 : ins 168 9 = some (.invokestatic 283, 3) := by decide +kernel
theorem i_168_12 : ins 168 12 = some (.ifCond .eq 12, 3) := by decide +kernel
theorem i_168_15 : ins 168 15 = some (.aload_n 0, 1) := by decide +kernel
theorem i_168_16 : ins 168 16 = some (.iload_n 1, 1) := by decide +kernel
theorem i_168_17 : ins 168 17 = some (.iload_n 2, 1) := by decide +kernel
theorem v_168_577 : inv 168 577 = some (169, 2, 1, 7340134) := by decide +kernel
theorem i_168_18 : ins 168 18 = some (.invokevirtual 577, 3) := by decide +kernel
theorem i_168_21 : ins 168 21 = some (.goto 4, 3) := by decide +kernel
theorem i_168_24 : ins 168 24 = some (.iconst (-1), 1) := by decide +kernel
theorem r_168 : mret 168 = 1 := by decide +kernel
theorem i_168_25 : ins 168 25 = some (.ireturn, 1) := by decide +kernel
theorem i_169_0 : ins 169 0 = some (.iconst 0, 1) := by decide +kernel
theorem i_169_1 : ins 169 1 = some (.istore_n 3, 1) := by decide +kernel
theorem i_169_2 : ins 169 2 = some (.iconst 0, 1) := by decide +kernel
theorem i_169_3 : ins 169 3 = some (.istore 4, 2) := by decide +kernel
theorem i_169_5 : ins 169 5 = some (.iload 4, 2) := by decide +kernel
theorem i_169_7 : ins 169 7 = some (.aload_n 0, 1) := by decide +kernel
theorem f_169_170 : fld 169 170 = some (7340134, 73, 2) := by decide +kernel
theorem i_169_8 : ins 169 8 = some (.getfield 170, 3) := by decide +kernel
theorem i_169_11 : ins 169 11 = some (.iload_n 1, 1) := by decide +kernel
theorem i_169_12 : ins 169 12 = some (.iaload, 1) := by decide +kernel
theorem i_169_13 : ins 169 13 = some (.if_icmp .ge 113, 3) := by decide +kernel
theorem t_13_126 : tg 13 (113) = some 126 := by decide +kernel
theorem i_169_16 : ins 169 16 = some (.aload_n 0, 1) := by decide +kernel
theorem f_169_185 : fld 169 185 = some (7340134, 78, 2) := by decide +kernel
theorem i_169_17 : ins 169 17 = some (.getfield 185, 3) := by decide +kernel
theorem i_169_20 : ins 169 20 = some (.iload 4, 2) := by decide +kernel
theorem i_169_22 : ins 169 22 = some (.aload_n 0, 1) := by decide +kernel
theorem f_169_182 : fld 169 182 = some (7340134, 77, 2) := by decide +kernel
theorem i_169_23 : ins 169 23 = some (.getfield 182, 3) := by decide +kernel
theorem i_169_26 : ins 169 26 = some (.bipush 10, 2) := by decide +kernel
theorem i_169_28 : ins 169 28 = some (.iload_n 1, 1) := by decide +kernel
theorem i_169_29 : ins 169 29 = some (.imul, 1) := by decide +kernel
theorem i_169_30 : ins 169 30 = some (.iload 4, 2) := by decide +kernel
theorem i_169_32 : ins 169 32 = some (.iadd, 1) := by decide +kernel
theorem i_169_33 : ins 169 33 = some (.iaload, 1) := by decide +kernel
theorem i_169_34 : ins 169 34 = some (.ineg, 1) := by decide +kernel
theorem kl_131072161 : klen 131072161 = 10 := by decide +kernel
theorem i_169_35 : ins 169 35 = some (.iastore, 1) := by decide +kernel
theorem i_169_36 : ins 169 36 = some (.iconst 0, 1) := by decide +kernel
theorem i_169_37 : ins 169 37 = some (.istore 5, 2) := by decide +kernel
theorem i_169_39 : ins 169 39 = some (.iload 5, 2) := by decide +kernel
theorem i_169_41 : ins 169 41 = some (.aload_n 0, 1) := by decide +kernel
theorem f_169_290 : fld 169 290 = some (7340134, 11, 0) := by decide +kernel
theorem i_169_42 : ins 169 42 = some (.getfield 290, 3) := by decide +kernel
theorem i_169_45 : ins 169 45 = some (.if_icmp .ge 57, 3) := by decide +kernel
theorem t_45_102 : tg 45 (57) = some 102 := by decide +kernel
theorem i_169_48 : ins 169 48 = some (.aload_n 0, 1) := by decide +kernel
theorem i_169_49 : ins 169 49 = some (.getfield 185, 3) := by decide +kernel
theorem i_169_52 : ins 169 52 = some (.iload 4, 2) := by decide +kernel
theorem i_169_54 : ins 169 54 = some (.dup2, 1) := by decide +kernel
theorem i_169_55 : ins 169 55 = some (.iaload, 1) := by decide +kernel
theorem i_169_56 : ins 169 56 = some (.aload_n 0, 1) := by decide +kernel
theorem f_169_31 : fld 169 31 = some (7340134, 13, 2) := by decide +kernel
theorem i_169_57 : ins 169 57 = some (.getfield 31, 3) := by decide +kernel
theorem i_169_60 : ins 169 60 = some (.iload 5, 2) := by decide +kernel
theorem i_169_62 : ins 169 62 = some (.iaload, 1) := by decide +kernel
theorem i_169_63 : ins 169 63 = some (.iload_n 1, 1) := by decide +kernel
theorem i_169_64 : ins 169 64 = some (.if_icmp .ne 29, 3) := by decide +kernel
theorem t_64_93 : tg 64 (29) = some 93 := by decide +kernel
theorem i_169_67 : ins 169 67 = some (.aload_n 0, 1) := by decide +kernel
theorem i_169_68 : ins 169 68 = some (.iload 5, 2) := by decide +kernel
theorem i_169_70 : ins 169 70 = some (.iload_n 2, 1) := by decide +kernel
theorem v_169_523 : inv 169 523 = some (143, 2, 1, 7340134) := by decide +kernel
theorem i_169_71 : ins 169 71 = some (.invokevirtual 523, 3) := by decide +kernel
theorem i_169_74 : ins 169 74 = some (.ifCond .eq 19, 3) := by decide +kernel
theorem t_74_93 : tg 74 (19) = some 93 := by decide +kernel
theorem i_169_77 : ins 169 77 = some (.aload_n 0, 1) := by decide +kernel
theorem i_169_78 : ins 169 78 = some (.iload 5, 2) := by decide +kernel
theorem i_169_80 : ins 169 80 = some (.bipush 10, 2) := by decide +kernel
theorem i_169_82 : ins 169 82 = some (.iload_n 1, 1) := by decide +kernel
theorem i_169_83 : ins 169 83 = some (.imul, 1) := by decide +kernel
theorem i_169_84 : ins 169 84 = some (.iload 4, 2) := by decide +kernel
theorem i_169_86 : ins 169 86 = some (.iadd, 1) := by decide +kernel
theorem v_169_574 : inv 169 574 = some (170, 2, 1, 7340134) := by decide +kernel
theorem i_169_87 : ins 169 87 = some (.invokevirtual 574, 3) := by decide +kernel
theorem i_169_90 : ins 169 90 = some (.goto 4, 3) := by decide +kernel
theorem i_169_93 : ins 169 93 = some (.iconst 0, 1) := by decide +kernel
theorem i_169_94 : ins 169 94 = some (.iadd, 1) := by decide +kernel
theorem i_169_95 : ins 169 95 = some (.iastore, 1) := by decide +kernel
theorem i_169_96 : ins 169 96 = some (.iinc 5 1, 3) := by decide +kernel
theorem i_169_99 : ins 169 99 = some (.goto (-60), 3) := by decide +kernel
theorem t_99_39 : tg 99 (-60) = some 39 := by decide +kernel
theorem i_169_102 : ins 169 102 = some (.iload_n 3, 1) := by decide +kernel
theorem i_169_103 : ins 169 103 = some (.aload_n 0, 1) := by decide +kernel
theorem i_169_104 : ins 169 104 = some (.getfield 185, 3) := by decide +kernel
theorem i_169_107 : ins 169 107 = some (.iload 4, 2) := by decide +kernel
theorem i_169_109 : ins 169 109 = some (.iaload, 1) := by decide +kernel
theorem i_169_110 : ins 169 110 = some (.ifCond .ne 7, 3) := by decide +kernel
theorem t_110_117 : tg 110 (7) = some 117 := by decide +kernel
theorem i_169_113 : ins 169 113 = some (.iconst 0, 1) := by decide +kernel
theorem i_169_114 : ins 169 114 = some (.goto 4, 3) := by decide +kernel
theorem t_114_118 : tg 114 (4) = some 118 := by decide +kernel
theorem i_169_117 : ins 169 117 = some (.iconst 1, 1) := by decide +kernel
theorem i_169_118 : ins 169 118 = some (.iadd, 1) := by decide +kernel
theorem i_169_119 : ins 169 119 = some (.istore_n 3, 1) := by decide +kernel
theorem i_169_120 : ins 169 120 = some (.iinc 4 1, 3) := by decide +kernel
theorem i_169_123 : ins 169 123 = some (.goto (-118), 3) := by decide +kernel
theorem t_123_5 : tg 123 (-118) = some 5 := by decide +kernel
theorem i_169_126 : ins 169 126 = some (.iload_n 3, 1) := by decide +kernel
theorem r_169 : mret 169 = 1 := by decide +kernel
theorem i_169_127 : ins 169 127 = some (.ireturn, 1) := by decide +kernel
theorem i_170_0 : ins 170 0 = some (.aload_n 0, 1) := by decide +kernel
theorem f_170_52 : fld 170 52 = some (7340134, 20, 2) := by decide +kernel
theorem i_170_1 : ins 170 1 = some (.getfield 52, 3) := by decide +kernel
theorem i_170_4 : ins 170 4 = some (.iload_n 1, 1) := by decide +kernel
theorem i_170_5 : ins 170 5 = some (.baload, 1) := by decide +kernel
theorem i_170_6 : ins 170 6 = some (.aload_n 0, 1) := by decide +kernel
theorem f_170_194 : fld 170 194 = some (7340134, 81, 2) := by decide +kernel
theorem i_170_7 : ins 170 7 = some (.getfield 194, 3) := by decide +kernel
theorem i_170_10 : ins 170 10 = some (.iload_n 2, 1) := by decide +kernel
theorem i_170_11 : ins 170 11 = some (.baload, 1) := by decide +kernel
theorem i_170_12 : ins 170 12 = some (.if_icmp .ne 54, 3) := by decide +kernel
theorem t_12_66 : tg 12 (54) = some 66 := by decide +kernel
theorem i_170_15 : ins 170 15 = some (.aload_n 0, 1) := by decide +kernel
theorem f_170_173 : fld 170 173 = some (7340134, 74, 2) := by decide +kernel
theorem i_170_16 : ins 170 16 = some (.getfield 173, 3) := by decide +kernel
theorem i_170_19 : ins 170 19 = some (.iload_n 2, 1) := by decide +kernel
theorem i_170_20 : ins 170 20 = some (.iaload, 1) := by decide +kernel
theorem i_170_21 : ins 170 21 = some (.aload_n 0, 1) := by decide +kernel
theorem f_170_34 : fld 170 34 = some (7340134, 14, 2) := by decide +kernel
theorem i_170_22 : ins 170 22 = some (.getfield 34, 3) := by decide +kernel
theorem i_170_25 : ins 170 25 = some (.iload_n 1, 1) := by decide +kernel
theorem i_170_26 : ins 170 26 = some (.iaload, 1) := by decide +kernel
theorem i_170_27 : ins 170 27 = some (.ishr, 1) := by decide +kernel
theorem i_170_28 : ins 170 28 = some (.iconst 1, 1) := by decide +kernel
theorem i_170_29 : ins 170 29 = some (.iand, 1) := by decide +kernel
theorem i_170_30 : ins 170 30 = some (.iconst 1, 1) := by decide +kernel
theorem i_170_31 : ins 170 31 = some (.if_icmp .ne 35, 3) := by decide +kernel
theorem t_31_66 : tg 31 (35) = some 66 := by decide +kernel
theorem i_170_34 : ins 170 34 = some (.aload_n 0, 1) := by decide +kernel
theorem i_170_35 : ins 170 35 = some (.iload_n 1, 1) := by decide +kernel
theorem v_170_505 : inv 170 505 = some (148, 1, 1, 7340134) := by decide +kernel
theorem i_170_36 : ins 170 36 = some (.invokevirtual 505, 3) := by decide +kernel
theorem i_170_39 : ins 170 39 = some (.aload_n 0, 1) := by decide +kernel
theorem f_170_176 : fld 170 176 = some (7340134, 75, 2) := by decide +kernel
theorem i_170_40 : ins 170 40 = some (.getfield 176, 3) := by decide +kernel
theorem i_170_43 : ins 170 43 = some (.iload_n 2, 1) := by decide +kernel
theorem i_170_44 : ins 170 44 = some (.iaload, 1) := by decide +kernel
theorem i_170_45 : ins 170 45 = some (.aload_n 0, 1) := by decide +kernel
theorem f_170_179 : fld 170 179 = some (7340134, 76, 2) := by decide +kernel
theorem i_170_46 : ins 170 46 = some (.getfield 179, 3) := by decide +kernel
theorem i_170_49 : ins 170 49 = some (.iload_n 2, 1) := by decide +kernel
theorem i_170_50 : ins 170 50 = some (.iaload, 1) := by decide +kernel
theorem v_170_260 : inv 170 260 = some (94, 3, 0, 0) := by decide +kernel
theorem i_170_51 : ins 170 51 = some (.invokestatic 260, 3) := by decide +kernel
theorem i_170_54 : ins 170 54 = some (.ifCond .eq 12, 3) := by decide +kernel
theorem t_54_66 : tg 54 (12) = some 66 := by decide +kernel
theorem i_170_57 : ins 170 57 = some (.aload_n 0, 1) := by decide +kernel
theorem f_170_40 : fld 170 40 = some (7340134, 16, 2) := by decide +kernel
theorem i_170_58 : ins 170 58 = some (.getfield 40, 3) := by decide +kernel
theorem i_170_61 : ins 170 61 = some (.iload_n 1, 1) := by decide +kernel
theorem i_170_62 : ins 170 62 = some (.iaload, 1) := by decide +kernel
theorem i_170_63 : ins 170 63 = some (.goto 4, 3) := by decide +kernel
theorem t_63_67 : tg 63 (4) = some 67 := by decide +kernel
theorem i_170_66 : ins 170 66 = some (.iconst 0, 1) := by decide +kernel
theorem r_170 : mret 170 = 1 := by decide +kernel
theorem i_170_67 : ins 170 67 = some (.ireturn, 1) := by decide +kernel
theorem i_171_0 : ins 171 0 = some (.aload_n 0, 1) := by decide +kernel
theorem i_171_1 : ins 171 1 = some (.iload_n 1, 1) := by decide +kernel
theorem v_171_277 : inv 171 277 = some (99, 1, 1, 7340134) := by decide +kernel
theorem i_171_2 : ins 171 2 = some (.invokevirtual 277, 3) := by decide +kernel
theorem i_171_5 : ins 171 5 = some (.ifCond .eq 10, 3) := by decide +kernel
theorem i_171_8 : ins 171 8 = some (.iload_n 2, 1) := by decide +kernel
theorem v_171_283 : inv 171 283 = some (102, 1, 0, 0) := by decide +kernel
theorem i_171_9 : ins 171 9 = some (.invokestatic 283, 3) := by decide +kernel
theorem i_171_12 : ins 171 12 = some (.ifCond .ne 5, 3) := by decide +kernel
theorem i_171_15 : ins 171 15 = some (.iconst (-1), 1) := by decide +kernel
theorem r_171 : mret 171 = 1 := by decide +kernel
theorem i_171_16 : ins 171 16 = some (.ireturn, 1) := by decide +kernel
theorem i_171_17 : ins 171 17 = some (.aload_n 0, 1) := by decide +kernel
theorem i_171_18 : ins 171 18 = some (.iload_n 1, 1) := by decide +kernel
theorem i_171_19 : ins 171 19 = some (.iload_n 2, 1) := by decide +kernel
theorem v_171_577 : inv 171 577 = some (169, 2, 1, 7340134) := by decide +kernel
theorem i_171_20 : ins 171 20 = some (.invokevirtual 577, 3) := by decide +kernel
theorem i_171_23 : ins 171 23 = some (.ifCond .ne 12, 3) := by decide +kernel
theorem t_23_35 : tg 23 (12) = some 35 := by decide +kernel
theorem i_171_26 : ins 171 26 = some (.aload_n 0, 1) := by decide +kernel
theorem i_171_27 : ins 171 27 = some (.iconst 0, 1) := by decide +kernel
theorem i_171_28 : ins 171 28 = some (.iconst (-1), 1) := by decide +kernel
theorem i_171_29 : ins 171 29 = some (.iconst (-1), 1) := by decide +kernel
theorem i_171_30 : ins 171 30 = some (.iconst (-1), 1) := by decide +kernel
theorem v_171_580 : inv 171 580 = some (172, 4, 1, 7340134) := by decide +kernel
theorem i_171_31 : ins 171 31 = some (.invokevirtual 580, 3) := by decide +kernel
theorem i_171_34 : ins 171 34 = some (.ireturn, 1) := by decide +kernel
theorem i_171_35 : ins 171 35 = some (.iconst 0, 1) := by decide +kernel
theorem i_171_36 : ins 171 36 = some (.istore_n 3, 1) := by decide +kernel
theorem i_171_37 : ins 171 37 = some (.iconst 0, 1) := by decide +kernel
theorem i_171_38 : ins 171 38 = some (.istore 4, 2) := by decide +kernel
theorem i_171_40 : ins 171 40 = some (.iload 4, 2) := by decide +kernel
theorem i_171_42 : ins 171 42 = some (.aload_n 0, 1) := by decide +kernel
theorem f_171_290 : fld 171 290 = some (7340134, 11, 0) := by decide +kernel
theorem i_171_43 : ins 171 43 = some (.getfield 290, 3) := by decide +kernel
theorem i_171_46 : ins 171 46 = some (.if_icmp .ge 47, 3) := by decide +kernel
theorem t_46_93 : tg 46 (47) = some 93 := by decide +kernel
theorem i_171_49 : ins 171 49 = some (.iload_n 3, 1) := by decide +kernel
theorem i_171_50 : ins 171 50 = some (.bipush 30, 2) := by decide +kernel
theorem i_171_52 : ins 171 52 = some (.if_icmp .ge 41, 3) := by decide +kernel
theorem i_171_55 : ins 171 55 = some (.aload_n 0, 1) := by decide +kernel
theorem f_171_31 : fld 171 31 = some (7340134, 13, 2) := by decide +kernel
theorem i_171_56 : ins 171 56 = some (.getfield 31, 3) := by decide +kernel
theorem i_171_59 : ins 171 59 = some (.iload 4, 2) := by decide +kernel
theorem i_171_61 : ins 171 61 = some (.iaload, 1) := by decide +kernel
theorem i_171_62 : ins 171 62 = some (.iload_n 1, 1) := by decide +kernel
theorem i_171_63 : ins 171 63 = some (.if_icmp .ne 24, 3) := by decide +kernel
theorem t_63_87 : tg 63 (24) = some 87 := by decide +kernel
theorem i_171_66 : ins 171 66 = some (.aload_n 0, 1) := by decide +kernel
theorem i_171_67 : ins 171 67 = some (.iload 4, 2) := by decide +kernel
theorem i_171_69 : ins 171 69 = some (.iload_n 2, 1) := by decide +kernel
theorem v_171_523 : inv 171 523 = some (143, 2, 1, 7340134) := by decide +kernel
theorem i_171_70 : ins 171 70 = some (.invokevirtual 523, 3) := by decide +kernel
theorem i_171_73 : ins 171 73 = some (.ifCond .eq 14, 3) := by decide +kernel
theorem t_73_87 : tg 73 (14) = some 87 := by decide +kernel
theorem i_171_76 : ins 171 76 = some (.aload_n 0, 1) := by decide +kernel
theorem f_171_188 : fld 171 188 = some (7340134, 79, 2) := by decide +kernel
theorem i_171_77 : ins 171 77 = some (.getfield 188, 3) := by decide +kernel
theorem i_171_80 : ins 171 80 = some (.iload_n 3, 1) := by decide +kernel
theorem i_171_81 : ins 171 81 = some (.iload 4, 2) := by decide +kernel
theorem kl_132121057 : klen 132121057 = 30 := by decide +kernel
theorem i_171_83 : ins 171 83 = some (.iastore, 1) := by decide +kernel
theorem i_171_84 : ins 171 84 = some (.iinc 3 1, 3) := by decide +kernel
theorem i_171_87 : ins 171 87 = some (.iinc 4 1, 3) := by decide +kernel
theorem i_171_90 : ins 171 90 = some (.goto (-50), 3) := by decide +kernel
theorem t_90_40 : tg 90 (-50) = some 40 := by decide +kernel
theorem i_171_93 : ins 171 93 = some (.iconst 0, 1) := by decide +kernel
theorem i_171_94 : ins 171 94 = some (.istore 4, 2) := by decide +kernel
theorem i_171_96 : ins 171 96 = some (.iload 4, 2) := by decide +kernel
theorem i_171_98 : ins 171 98 = some (.iload_n 3, 1) := by decide +kernel
theorem i_171_99 : ins 171 99 = some (.if_icmp .ge 31, 3) := by decide +kernel
theorem t_99_130 : tg 99 (31) = some 130 := by decide +kernel
theorem i_171_102 : ins 171 102 = some (.aload_n 0, 1) := by decide +kernel
theorem i_171_103 : ins 171 103 = some (.iload_n 1, 1) := by decide +kernel
theorem i_171_104 : ins 171 104 = some (.iload 4, 2) := by decide +kernel
theorem i_171_106 : ins 171 106 = some (.iconst (-1), 1) := by decide +kernel
theorem i_171_107 : ins 171 107 = some (.iconst (-1), 1) := by decide +kernel
theorem v_171_583 : inv 171 583 = some (173, 4, 1, 7340134) := by decide +kernel
theorem i_171_108 : ins 171 108 = some (.invokevirtual 583, 3) := by decide +kernel
theorem i_171_111 : ins 171 111 = some (.ifCond .eq 13, 3) := by decide +kernel
theorem t_111_124 : tg 111 (13) = some 124 := by decide +kernel
theorem i_171_114 : ins 171 114 = some (.aload_n 0, 1) := by decide +kernel
theorem i_171_115 : ins 171 115 = some (.iconst 1, 1) := by decide +kernel
theorem i_171_116 : ins 171 116 = some (.iload 4, 2) := by decide +kernel
theorem i_171_118 : ins 171 118 = some (.iconst (-1), 1) := by decide +kernel
theorem i_171_119 : ins 171 119 = some (.iconst (-1), 1) := by decide +kernel
theorem i_171_120 : ins 171 120 = some (.invokevirtual 580, 3) := by decide +kernel
theorem i_171_123 : ins 171 123 = some (.ireturn, 1) := by decide +kernel
theorem i_171_124 : ins 171 124 = some (.iinc 4 1, 3) := by decide +kernel
theorem i_171_127 : ins 171 127 = some (.goto (-31), 3) := by decide +kernel
theorem t_127_96 : tg 127 (-31) = some 96 := by decide +kernel
theorem i_171_130 : ins 171 130 = some (.iconst 0, 1) := by decide +kernel
theorem i_171_131 : ins 171 131 = some (.istore 4, 2) := by decide +kernel
theorem i_171_133 : ins 171 133 = some (.iload 4, 2) := by decide +kernel
theorem i_171_135 : ins 171 135 = some (.iload_n 3, 1) := by decide +kernel
theorem i_171_136 : ins 171 136 = some (.if_icmp .ge 51, 3) := by decide +kernel
theorem t_136_187 : tg 136 (51) = some 187 := by decide +kernel
theorem i_171_139 : ins 171 139 = some (.iload 4, 2) := by decide +kernel
theorem i_171_141 : ins 171 141 = some (.iconst 1, 1) := by decide +kernel
theorem i_171_142 : ins 171 142 = some (.iadd, 1) := by decide +kernel
theorem i_171_143 : ins 171 143 = some (.istore 5, 2) := by decide +kernel
theorem i_171_145 : ins 171 145 = some (.iload 5, 2) := by decide +kernel
theorem i_171_147 : ins 171 147 = some (.iload_n 3, 1) := by decide +kernel
theorem i_171_148 : ins 171 148 = some (.if_icmp .ge 33, 3) := by decide +kernel
theorem t_148_181 : tg 148 (33) = some 181 := by decide +kernel
theorem i_171_151 : ins 171 151 = some (.aload_n 0, 1) := by decide +kernel
theorem i_171_152 : ins 171 152 = some (.iload_n 1, 1) := by decide +kernel
theorem i_171_153 : ins 171 153 = some (.iload 4, 2) := by decide +kernel
theorem i_171_155 : ins 171 155 = some (.iload 5, 2) := by decide +kernel
theorem i_171_157 : ins 171 157 = some (.iconst (-1), 1) := by decide +kernel
theorem i_171_158 : ins 171 158 = some (.invokevirtual 583, 3) := by decide +kernel
theorem i_171_161 : ins 171 161 = some (.ifCond .eq 14, 3) := by decide +kernel
theorem t_161_175 : tg 161 (14) = some 175 := by decide +kernel
theorem i_171_164 : ins 171 164 = some (.aload_n 0, 1) := by decide +kernel
theorem i_171_165 : ins 171 165 = some (.iconst 2, 1) := by decide +kernel
theorem i_171_166 : ins 171 166 = some (.iload 4, 2) := by decide +kernel
theorem i_171_168 : ins 171 168 = some (.iload 5, 2) := by decide +kernel
theorem i_171_170 : ins 171 170 = some (.iconst (-1), 1) := by decide +kernel
theorem i_171_171 : ins 171 171 = some (.invokevirtual 580, 3) := by decide +kernel
theorem i_171_174 : ins 171 174 = some (.ireturn, 1) := by decide +kernel
theorem i_171_175 : ins 171 175 = some (.iinc 5 1, 3) := by decide +kernel
theorem i_171_178 : ins 171 178 = some (.goto (-33), 3) := by decide +kernel
theorem t_178_145 : tg 178 (-33) = some 145 := by decide +kernel
theorem i_171_181 : ins 171 181 = some (.iinc 4 1, 3) := by decide +kernel
theorem i_171_184 : ins 171 184 = some (.goto (-51), 3) := by decide +kernel
theorem t_184_133 : tg 184 (-51) = some 133 := by decide +kernel
theorem i_171_187 : ins 171 187 = some (.iconst 0, 1) := by decide +kernel
theorem i_171_188 : ins 171 188 = some (.istore 4, 2) := by decide +kernel
theorem i_171_190 : ins 171 190 = some (.iload 4, 2) := by decide +kernel
theorem i_171_192 : ins 171 192 = some (.iload_n 3, 1) := by decide +kernel
theorem i_171_193 : ins 171 193 = some (.if_icmp .ge 71, 3) := by decide +kernel
theorem t_193_264 : tg 193 (71) = some 264 := by decide +kernel
theorem i_171_196 : ins 171 196 = some (.iload 4, 2) := by decide +kernel
theorem i_171_198 : ins 171 198 = some (.iconst 1, 1) := by decide +kernel
theorem i_171_199 : ins 171 199 = some (.iadd, 1) := by decide +kernel
theorem i_171_200 : ins 171 200 = some (.istore 5, 2) := by decide +kernel
theorem i_171_202 : ins 171 202 = some (.iload 5, 2) := by decide +kernel
theorem i_171_204 : ins 171 204 = some (.iload_n 3, 1) := by decide +kernel
theorem i_171_205 : ins 171 205 = some (.if_icmp .ge 53, 3) := by decide +kernel
theorem t_205_258 : tg 205 (53) = some 258 := by decide +kernel
theorem i_171_208 : ins 171 208 = some (.iload 5, 2) := by decide +kernel
theorem i_171_210 : ins 171 210 = some (.iconst 1, 1) := by decide +kernel
theorem i_171_211 : ins 171 211 = some (.iadd, 1) := by decide +kernel
theorem i_171_212 : ins 171 212 = some (.istore 6, 2) := by decide +kernel
theorem i_171_214 : ins 171 214 = some (.iload 6, 2) := by decide +kernel
theorem i_171_216 : ins 171 216 = some (.iload_n 3, 1) := by decide +kernel
theorem i_171_217 : ins 171 217 = some (.if_icmp .ge 35, 3) := by decide +kernel
theorem t_217_252 : tg 217 (35) = some 252 := by decide +kernel
theorem i_171_220 : ins 171 220 = some (.aload_n 0, 1) := by decide +kernel
theorem i_171_221 : ins 171 221 = some (.iload_n 1, 1) := by decide +kernel
theorem i_171_222 : ins 171 222 = some (.iload 4, 2) := by decide +kernel
theorem i_171_224 : ins 171 224 = some (.iload 5, 2) := by decide +kernel
theorem i_171_226 : ins 171 226 = some (.iload 6, 2) := by decide +kernel
theorem i_171_228 : ins 171 228 = some (.invokevirtual 583, 3) := by decide +kernel
theorem i_171_231 : ins 171 231 = some (.ifCond .eq 15, 3) := by decide +kernel
theorem t_231_246 : tg 231 (15) = some 246 := by decide +kernel
theorem i_171_234 : ins 171 234 = some (.aload_n 0, 1) := by decide +kernel
theorem i_171_235 : ins 171 235 = some (.iconst 3, 1) := by decide +kernel
theorem i_171_236 : ins 171 236 = some (.iload 4, 2) := by decide +kernel
theorem i_171_238 : ins 171 238 = some (.iload 5, 2) := by decide +kernel
theorem i_171_240 : ins 171 240 = some (.iload 6, 2) := by decide +kernel
theorem i_171_242 : ins 171 242 = some (.invokevirtual 580, 3) := by decide +kernel
theorem i_171_245 : ins 171 245 = some (.ireturn, 1) := by decide +kernel
theorem i_171_246 : ins 171 246 = some (.iinc 6 1, 3) := by decide +kernel
theorem i_171_249 : ins 171 249 = some (.goto (-35), 3) := by decide +kernel
theorem t_249_214 : tg 249 (-35) = some 214 := by decide +kernel
theorem i_171_252 : ins 171 252 = some (.iinc 5 1, 3) := by decide +kernel
theorem i_171_255 : ins 171 255 = some (.goto (-53), 3) := by decide +kernel
theorem t_255_202 : tg 255 (-53) = some 202 := by decide +kernel
theorem i_171_258 : ins 171 258 = some (.iinc 4 1, 3) := by decide +kernel
theorem i_171_261 : ins 171 261 = some (.goto (-71), 3) := by decide +kernel
theorem t_261_190 : tg 261 (-71) = some 190 := by decide +kernel
theorem i_171_264 : ins 171 264 = some (.bipush (-2), 2) := by decide +kernel
theorem i_171_266 : ins 171 266 = some (.ireturn, 1) := by decide +kernel
theorem i_172_0 : ins 172 0 = some (.aload_n 0, 1) := by decide +kernel
theorem i_172_1 : ins 172 1 = some (.iload_n 1, 1) := by decide +kernel
theorem f_172_197 : fld 172 197 = some (7340134, 82, 0) := by decide +kernel
theorem o_172_7340134_82 : putok 172 7340134 82 = true := by decide +kernel
theorem i_172_2 : ins 172 2 = some (.putfield 197, 3) := by decide +kernel
theorem i_172_5 : ins 172 5 = some (.aload_n 0, 1) := by decide +kernel
theorem f_172_191 : fld 172 191 = some (7340134, 80, 2) := by decide +kernel
theorem i_172_6 : ins 172 6 = some (.getfield 191, 3) := by decide +kernel
theorem i_172_9 : ins 172 9 = some (.iconst 0, 1) := by decide +kernel
theorem i_172_10 : ins 172 10 = some (.iload_n 2, 1) := by decide +kernel
theorem i_172_11 : ins 172 11 = some (.iconst (-1), 1) := by decide +kernel
theorem i_172_12 : ins 172 12 = some (.if_icmp .ne 7, 3) := by decide +kernel
theorem t_12_19 : tg 12 (7) = some 19 := by decide +kernel
theorem i_172_15 : ins 172 15 = some (.iconst (-1), 1) := by decide +kernel
theorem i_172_16 : ins 172 16 = some (.goto 9, 3) := by decide +kernel
theorem t_16_25 : tg 16 (9) = some 25 := by decide +kernel
theorem i_172_19 : ins 172 19 = some (.aload_n 0, 1) := by decide +kernel
theorem f_172_188 : fld 172 188 = some (7340134, 79, 2) := by decide +kernel
theorem i_172_20 : ins 172 20 = some (.getfield 188, 3) := by decide +kernel
theorem i_172_23 : ins 172 23 = some (.iload_n 2, 1) := by decide +kernel
theorem i_172_24 : ins 172 24 = some (.iaload, 1) := by decide +kernel
theorem kl_133169201 : klen 133169201 = 3 := by decide +kernel
theorem i_172_25 : ins 172 25 = some (.iastore, 1) := by decide +kernel
theorem i_172_26 : ins 172 26 = some (.aload_n 0, 1) := by decide +kernel
theorem i_172_27 : ins 172 27 = some (.getfield 191, 3) := by decide +kernel
theorem i_172_30 : ins 172 30 = some (.iconst 1, 1) := by decide +kernel
theorem i_172_31 : ins 172 31 = some (.iload_n 3, 1) := by decide +kernel
theorem i_172_32 : ins 172 32 = some (.iconst (-1), 1) := by decide +kernel
theorem i_172_33 : ins 172 33 = some (.if_icmp .ne 7, 3) := by decide +kernel
theorem t_33_40 : tg 33 (7) = some 40 := by decide +kernel
theorem i_172_36 : ins 172 36 = some (.iconst (-1), 1) := by decide +kernel
theorem i_172_37 : ins 172 37 = some (.goto 9, 3) := by decide +kernel
theorem t_37_46 : tg 37 (9) = some 46 := by decide +kernel
theorem i_172_40 : ins 172 40 = some (.aload_n 0, 1) := by decide +kernel
theorem i_172_41 : ins 172 41 = some (.getfield 188, 3) := by decide +kernel
theorem i_172_44 : ins 172 44 = some (.iload_n 3, 1) := by decide +kernel
theorem i_172_45 : ins 172 45 = some (.iaload, 1) := by decide +kernel
theorem i_172_46 : ins 172 46 = some (.iastore, 1) := by decide +kernel
theorem i_172_47 : ins 172 47 = some (.aload_n 0, 1) := by decide +kernel
theorem i_172_48 : ins 172 48 = some (.getfield 191, 3) := by decide +kernel
theorem i_172_51 : ins 172 51 = some (.iconst 2, 1) := by decide +kernel
theorem i_172_52 : ins 172 52 = some (.iload 4, 2) := by decide +kernel
theorem i_172_54 : ins 172 54 = some (.iconst (-1), 1) := by decide +kernel
theorem i_172_55 : ins 172 55 = some (.if_icmp .ne 7, 3) := by decide +kernel
theorem t_55_62 : tg 55 (7) = some 62 := by decide +kernel
theorem i_172_58 : ins 172 58 = some (.iconst (-1), 1) := by decide +kernel
theorem i_172_59 : ins 172 59 = some (.goto 10, 3) := by decide +kernel
theorem t_59_69 : tg 59 (10) = some 69 := by decide +kernel
theorem i_172_62 : ins 172 62 = some (.aload_n 0, 1) := by decide +kernel
theorem i_172_63 : ins 172 63 = some (.getfield 188, 3) := by decide +kernel
theorem i_172_66 : ins 172 66 = some (.iload 4, 2) := by decide +kernel
theorem i_172_68 : ins 172 68 = some (.iaload, 1) := by decide +kernel
theorem i_172_69 : ins 172 69 = some (.iastore, 1) := by decide +kernel
theorem i_172_70 : ins 172 70 = some (.iload_n 1, 1) := by decide +kernel
theorem r_172 : mret 172 = 1 := by decide +kernel
theorem i_172_71 : ins 172 71 = some (.ireturn, 1) := by decide +kernel
theorem i_173_0 : ins 173 0 = some (.iconst 1, 1) := by decide +kernel
theorem i_173_1 : ins 173 1 = some (.istore 5, 2) := by decide +kernel
theorem i_173_3 : ins 173 3 = some (.iconst 0, 1) := by decide +kernel
theorem i_173_4 : ins 173 4 = some (.istore 6, 2) := by decide +kernel
theorem i_173_6 : ins 173 6 = some (.iload 6, 2) := by decide +kernel
theorem i_173_8 : ins 173 8 = some (.aload_n 0, 1) := by decide +kernel
theorem f_173_170 : fld 173 170 = some (7340134, 73, 2) := by decide +kernel
theorem i_173_9 : ins 173 9 = some (.getfield 170, 3) := by decide +kernel
theorem i_173_12 : ins 173 12 = some (.iload_n 1, 1) := by decide +kernel
theorem i_173_13 : ins 173 13 = some (.iaload, 1) := by decide +kernel
theorem i_173_14 : ins 173 14 = some (.if_icmp .ge 119, 3) := by decide +kernel
theorem t_14_133 : tg 14 (119) = some 133 := by decide +kernel
theorem i_173_17 : ins 173 17 = some (.iload 5, 2) := by decide +kernel
theorem i_173_19 : ins 173 19 = some (.ifCond .eq 114, 3) := by decide +kernel
theorem t_19_133 : tg 19 (114) = some 133 := by decide +kernel
theorem i_173_22 : ins 173 22 = some (.bipush 10, 2) := by decide +kernel
theorem i_173_24 : ins 173 24 = some (.iload_n 1, 1) := by decide +kernel
theorem i_173_25 : ins 173 25 = some (.imul, 1) := by decide +kernel
theorem i_173_26 : ins 173 26 = some (.iload 6, 2) := by decide +kernel
theorem i_173_28 : ins 173 28 = some (.iadd, 1) := by decide +kernel
theorem i_173_29 : ins 173 29 = some (.istore 7, 2) := by decide +kernel
theorem i_173_31 : ins 173 31 = some (.iload_n 2, 1) := by decide +kernel
theorem i_173_32 : ins 173 32 = some (.iconst (-1), 1) := by decide +kernel
theorem i_173_33 : ins 173 33 = some (.if_icmp .ne 7, 3) := by decide +kernel
theorem i_173_36 : ins 173 36 = some (.iconst 0, 1) := by decide +kernel
theorem i_173_37 : ins 173 37 = some (.goto 15, 3) := by decide +kernel
theorem t_37_52 : tg 37 (15) = some 52 := by decide +kernel
theorem i_173_40 : ins 173 40 = some (.aload_n 0, 1) := by decide +kernel
theorem i_173_41 : ins 173 41 = some (.aload_n 0, 1) := by decide +kernel
theorem f_173_188 : fld 173 188 = some (7340134, 79, 2) := by decide +kernel
theorem i_173_42 : ins 173 42 = some (.getfield 188, 3) := by decide +kernel
theorem i_173_45 : ins 173 45 = some (.iload_n 2, 1) := by decide +kernel
theorem i_173_46 : ins 173 46 = some (.iaload, 1) := by decide +kernel
theorem i_173_47 : ins 173 47 = some (.iload 7, 2) := by decide +kernel
theorem v_173_574 : inv 173 574 = some (170, 2, 1, 7340134) := by decide +kernel
theorem i_173_49 : ins 173 49 = some (.invokevirtual 574, 3) := by decide +kernel
theorem i_173_52 : ins 173 52 = some (.istore 8, 2) := by decide +kernel
theorem i_173_54 : ins 173 54 = some (.iload 8, 2) := by decide +kernel
theorem i_173_56 : ins 173 56 = some (.iload_n 3, 1) := by decide +kernel
theorem i_173_57 : ins 173 57 = some (.iconst (-1), 1) := by decide +kernel
theorem i_173_58 : ins 173 58 = some (.if_icmp .ne 7, 3) := by decide +kernel
theorem t_58_65 : tg 58 (7) = some 65 := by decide +kernel
theorem i_173_61 : ins 173 61 = some (.iconst 0, 1) := by decide +kernel
theorem i_173_62 : ins 173 62 = some (.goto 15, 3) := by decide +kernel
theorem t_62_77 : tg 62 (15) = some 77 := by decide +kernel
theorem i_173_65 : ins 173 65 = some (.aload_n 0, 1) := by decide +kernel
theorem i_173_66 : ins 173 66 = some (.aload_n 0, 1) := by decide +kernel
theorem i_173_67 : ins 173 67 = some (.getfield 188, 3) := by decide +kernel
theorem i_173_70 : ins 173 70 = some (.iload_n 3, 1) := by decide +kernel
theorem i_173_71 : ins 173 71 = some (.iaload, 1) := by decide +kernel
theorem i_173_72 : ins 173 72 = some (.iload 7, 2) := by decide +kernel
theorem i_173_74 : ins 173 74 = some (.invokevirtual 574, 3) := by decide +kernel
theorem i_173_77 : ins 173 77 = some (.iadd, 1) := by decide +kernel
theorem i_173_78 : ins 173 78 = some (.istore 8, 2) := by decide +kernel
theorem i_173_80 : ins 173 80 = some (.iload 8, 2) := by decide +kernel
theorem i_173_82 : ins 173 82 = some (.iload 4, 2) := by decide +kernel
theorem i_173_84 : ins 173 84 = some (.iconst (-1), 1) := by decide +kernel
theorem i_173_85 : ins 173 85 = some (.if_icmp .ne 7, 3) := by decide +kernel
theorem i_173_88 : ins 173 88 = some (.iconst 0, 1) := by decide +kernel
theorem i_173_89 : ins 173 89 = some (.goto 16, 3) := by decide +kernel
theorem t_89_105 : tg 89 (16) = some 105 := by decide +kernel
theorem i_173_92 : ins 173 92 = some (.aload_n 0, 1) := by decide +kernel
theorem i_173_93 : ins 173 93 = some (.aload_n 0, 1) := by decide +kernel
theorem i_173_94 : ins 173 94 = some (.getfield 188, 3) := by decide +kernel
theorem i_173_97 : ins 173 97 = some (.iload 4, 2) := by decide +kernel
theorem i_173_99 : ins 173 99 = some (.iaload, 1) := by decide +kernel
theorem i_173_100 : ins 173 100 = some (.iload 7, 2) := by decide +kernel
theorem i_173_102 : ins 173 102 = some (.invokevirtual 574, 3) := by decide +kernel
theorem i_173_105 : ins 173 105 = some (.iadd, 1) := by decide +kernel
theorem i_173_106 : ins 173 106 = some (.istore 8, 2) := by decide +kernel
theorem i_173_108 : ins 173 108 = some (.aload_n 0, 1) := by decide +kernel
theorem f_173_185 : fld 173 185 = some (7340134, 78, 2) := by decide +kernel
theorem i_173_109 : ins 173 109 = some (.getfield 185, 3) := by decide +kernel
theorem i_173_112 : ins 173 112 = some (.iload 6, 2) := by decide +kernel
theorem i_173_114 : ins 173 114 = some (.iaload, 1) := by decide +kernel
theorem i_173_115 : ins 173 115 = some (.iload 8, 2) := by decide +kernel
theorem i_173_117 : ins 173 117 = some (.if_icmp .ne 7, 3) := by decide +kernel
theorem t_117_124 : tg 117 (7) = some 124 := by decide +kernel
theorem i_173_120 : ins 173 120 = some (.iconst 1, 1) := by decide +kernel
theorem i_173_121 : ins 173 121 = some (.goto 4, 3) := by decide +kernel
theorem t_121_125 : tg 121 (4) = some 125 := by decide +kernel
theorem i_173_124 : ins 173 124 = some (.iconst 0, 1) := by decide +kernel
theorem i_173_125 : ins 173 125 = some (.istore 5, 2) := by decide +kernel
theorem i_173_127 : ins 173 127 = some (.iinc 6 1, 3) := by decide +kernel
theorem i_173_130 : ins 173 130 = some (.goto (-124), 3) := by decide +kernel
theorem t_130_6 : tg 130 (-124) = some 6 := by decide +kernel
theorem i_173_133 : ins 173 133 = some (.iload 5, 2) := by decide +kernel
theorem r_173 : mret 173 = 2 := by decide +kernel
theorem i_173_135 : ins 173 135 = some (.ireturn, 1) := by decide +kernel
theorem i_174_0 : ins 174 0 = some (.iload_n 1, 1) := by decide +kernel
theorem i_174_1 : ins 174 1 = some (.iconst 0, 1) := by decide +kernel
theorem i_174_2 : ins 174 2 = some (.aload_n 0, 1) := by decide +kernel
theorem f_174_197 : fld 174 197 = some (7340134, 82, 0) := by decide +kernel
theorem i_174_3 : ins 174 3 = some (.getfield 197, 3) := by decide +kernel
theorem i_174_6 : ins 174 6 = some (.iconst 1, 1) := by decide +kernel
theorem i_174_7 : ins 174 7 = some (.isub, 1) := by decide +kernel
theorem v_174_260 : inv 174 260 = some (94, 3, 0, 0) := by decide +kernel
theorem i_174_8 : ins 174 8 = some (.invokestatic 260, 3) := by decide +kernel
theorem i_174_11 : ins 174 11 = some (.ifCond .eq 12, 3) := by decide +kernel
theorem t_11_23 : tg 11 (12) = some 23 := by decide +kernel
theorem i_174_14 : ins 174 14 = some (.aload_n 0, 1) := by decide +kernel
theorem f_174_191 : fld 174 191 = some (7340134, 80, 2) := by decide +kernel
theorem i_174_15 : ins 174 15 = some (.getfield 191, 3) := by decide +kernel
theorem i_174_18 : ins 174 18 = some (.iload_n 1, 1) := by decide +kernel
theorem i_174_19 : ins 174 19 = some (.iaload, 1) := by decide +kernel
theorem i_174_20 : ins 174 20 = some (.goto 4, 3) := by decide +kernel
theorem i_174_23 : ins 174 23 = some (.iconst (-1), 1) := by decide +kernel
theorem r_174 : mret 174 = 1 := by decide +kernel
theorem i_174_24 : ins 174 24 = some (.ireturn, 1) := by decide +kernel
theorem i_175_0 : ins 175 0 = some (.aload_n 0, 1) := by decide +kernel
theorem f_175_587 : fld 175 587 = some (7340134, 83, 0) := by decide +kernel
theorem i_175_1 : ins 175 1 = some (.getfield 587, 3) := by decide +kernel
theorem i_175_4 : ins 175 4 = some (.bipush 100, 2) := by decide +kernel
theorem i_175_6 : ins 175 6 = some (.if_icmp .eq 33, 3) := by decide +kernel
theorem i_175_9 : ins 175 9 = some (.iload_n 1, 1) := by decide +kernel
theorem v_175_590 : inv 175 590 = some (176, 1, 0, 0) := by decide +kernel
theorem i_175_10 : ins 175 10 = some (.invokestatic 590, 3) := by decide +kernel
theorem i_175_13 : ins 175 13 = some (.ifCond .eq 26, 3) := by decide +kernel
theorem t_13_39 : tg 13 (26) = some 39 := by decide +kernel
theorem i_175_16 : ins 175 16 = some (.iload_n 2, 1) := by decide +kernel
theorem i_175_17 : ins 175 17 = some (.invokestatic 590, 3) := by decide +kernel
theorem i_175_20 : ins 175 20 = some (.ifCond .eq 19, 3) := by decide +kernel
theorem t_20_39 : tg 20 (19) = some 39 := by decide +kernel
theorem i_175_23 : ins 175 23 = some (.iload_n 1, 1) := by decide +kernel
theorem i_175_24 : ins 175 24 = some (.iload_n 2, 1) := by decide +kernel
theorem i_175_25 : ins 175 25 = some (.if_icmp .eq 14, 3) := by decide +kernel
theorem t_25_39 : tg 25 (14) = some 39 := by decide +kernel
theorem i_175_28 : ins 175 28 = some (.iload_n 3, 1) := by decide +kernel
theorem i_175_29 : ins 175 29 = some (.iconst 1, 1) := by decide +kernel
theorem l_175_411 : ldcv 175 411 = some (vI (nI 99999)) := rfl
theorem i_175_30 : ins 175 30 = some (.ldc_w 411, 3) := by decide +kernel
theorem v_175_260 : inv 175 260 = some (94, 3, 0, 0) := by decide +kernel
theorem i_175_33 : ins 175 33 = some (.invokestatic 260, 3) := by decide +kernel
theorem i_175_36 : ins 175 36 = some (.ifCond .ne 5, 3) := by decide +kernel
theorem i_175_39 : ins 175 39 = some (.iconst (-1), 1) := by decide +kernel
theorem r_175 : mret 175 = 1 := by decide +kernel
theorem i_175_40 : ins 175 40 = some (.ireturn, 1) := by decide +kernel
theorem i_175_41 : ins 175 41 = some (.aload_n 0, 1) := by decide +kernel
theorem f_175_200 : fld 175 200 = some (7340134, 85, 2) := by decide +kernel
theorem i_175_42 : ins 175 42 = some (.getfield 200, 3) := by decide +kernel
theorem i_175_45 : ins 175 45 = some (.bipush 8, 2) := by decide +kernel
theorem i_175_47 : ins 175 47 = some (.iload_n 1, 1) := by decide +kernel
theorem i_175_48 : ins 175 48 = some (.imul, 1) := by decide +kernel
theorem i_175_49 : ins 175 49 = some (.iload_n 2, 1) := by decide +kernel
theorem i_175_50 : ins 175 50 = some (.iadd, 1) := by decide +kernel
theorem i_175_51 : ins 175 51 = some (.dup2, 1) := by decide +kernel
theorem kl_135267329 : klen 135267329 = 64 := by decide +kernel
theorem i_175_52 : ins 175 52 = some (.iaload, 1) := by decide +kernel
theorem i_175_53 : ins 175 53 = some (.iload_n 3, 1) := by decide +kernel
theorem i_175_54 : ins 175 54 = some (.iadd, 1) := by decide +kernel
theorem i_175_55 : ins 175 55 = some (.iastore, 1) := by decide +kernel
theorem i_175_56 : ins 175 56 = some (.aload_n 0, 1) := by decide +kernel
theorem i_175_57 : ins 175 57 = some (.dup, 1) := by decide +kernel
theorem i_175_58 : ins 175 58 = some (.getfield 587, 3) := by decide +kernel
theorem i_175_61 : ins 175 61 = some (.iconst 1, 1) := by decide +kernel
theorem i_175_62 : ins 175 62 = some (.iadd, 1) := by decide +kernel
theorem o_175_7340134_83 : putok 175 7340134 83 = true := by decide +kernel
theorem i_175_63 : ins 175 63 = some (.putfield 587, 3) := by decide +kernel
theorem i_175_66 : ins 175 66 = some (.aload_n 0, 1) := by decide +kernel
theorem i_175_67 : ins 175 67 = some (.getfield 587, 3) := by decide +kernel
theorem i_175_70 : ins 175 70 = some (.ireturn, 1) := by decide +kernel
theorem i_176_0 : ins 176 0 = some (.iload_n 0, 1) := by decide +kernel
theorem i_176_1 : ins 176 1 = some (.iconst 0, 1) := by decide +kernel
theorem i_176_2 : ins 176 2 = some (.bipush 7, 2) := by decide +kernel
theorem v_176_260 : inv 176 260 = some (94, 3, 0, 0) := by decide +kernel
theorem i_176_4 : ins 176 4 = some (.invokestatic 260, 3) := by decide +kernel
theorem r_176 : mret 176 = 2 := by decide +kernel
theorem i_176_7 : ins 176 7 = some (.ireturn, 1) := by decide +kernel
theorem i_177_0 : ins 177 0 = some (.iload_n 1, 1) := by decide +kernel
theorem v_177_590 : inv 177 590 = some (176, 1, 0, 0) := by decide +kernel
theorem i_177_1 : ins 177 1 = some (.invokestatic 590, 3) := by decide +kernel
theorem i_177_4 : ins 177 4 = some (.ifCond .eq 14, 3) := by decide +kernel
theorem t_4_18 : tg 4 (14) = some 18 := by decide +kernel
theorem i_177_7 : ins 177 7 = some (.iload_n 2, 1) := by decide +kernel
theorem i_177_8 : ins 177 8 = some (.iconst 0, 1) := by decide +kernel
theorem l_177_411 : ldcv 177 411 = some (vI (nI 99999)) := rfl
theorem i_177_9 : ins 177 9 = some (.ldc_w 411, 3) := by decide +kernel
theorem v_177_260 : inv 177 260 = some (94, 3, 0, 0) := by decide +kernel
theorem i_177_12 : ins 177 12 = some (.invokestatic 260, 3) := by decide +kernel
theorem i_177_15 : ins 177 15 = some (.ifCond .ne 5, 3) := by decide +kernel
theorem i_177_18 : ins 177 18 = some (.iconst (-1), 1) := by decide +kernel
theorem r_177 : mret 177 = 1 := by decide +kernel
theorem i_177_19 : ins 177 19 = some (.ireturn, 1) := by decide +kernel
theorem i_177_20 : ins 177 20 = some (.aload_n 0, 1) := by decide +kernel
theorem f_177_203 : fld 177 203 = some (7340134, 86, 2) := by decide +kernel
theorem i_177_21 : ins 177 21 = some (.getfield 203, 3) := by decide +kernel
theorem i_177_24 : ins 177 24 = some (.iload_n 1, 1) := by decide +kernel
theorem kl_136315009 : klen 136315009 = 8 := by decide +kernel
theorem i_177_25 : ins 177 25 = some (.iaload, 1) := by decide +kernel
theorem i_177_26 : ins 177 26 = some (.istore_n 3, 1) := by decide +kernel
theorem i_177_27 : ins 177 27 = some (.aload_n 0, 1) := by decide +kernel
theorem i_177_28 : ins 177 28 = some (.getfield 203, 3) := by decide +kernel
theorem i_177_31 : ins 177 31 = some (.iload_n 1, 1) := by decide +kernel
theorem i_177_32 : ins 177 32 = some (.iload_n 2, 1) := by decide +kernel
theorem i_177_33 : ins 177 33 = some (.iastore, 1) := by decide +kernel
theorem i_177_34 : ins 177 34 = some (.iload_n 3, 1) := by decide +kernel
theorem i_177_35 : ins 177 35 = some (.ireturn, 1) := by decide +kernel
theorem i_178_0 : ins 178 0 = some (.iload_n 1, 1) := by decide +kernel
theorem v_178_590 : inv 178 590 = some (176, 1, 0, 0) := by decide +kernel
theorem i_178_1 : ins 178 1 = some (.invokestatic 590, 3) := by decide +kernel
theorem i_178_4 : ins 178 4 = some (.ifCond .eq 10, 3) := by decide +kernel
theorem t_4_14 : tg 4 (10) = some 14 := by decide +kernel
theorem i_178_7 : ins 178 7 = some (.iload_n 2, 1) := by decide +kernel
theorem i_178_8 : ins 178 8 = some (.invokestatic 590, 3) := by decide +kernel
theorem i_178_11 : ins 178 11 = some (.ifCond .ne 5, 3) := by decide +kernel
theorem i_178_14 : ins 178 14 = some (.iconst (-1), 1) := by decide +kernel
theorem r_178 : mret 178 = 1 := by decide +kernel
theorem i_178_15 : ins 178 15 = some (.ireturn, 1) := by decide +kernel
theorem i_178_16 : ins 178 16 = some (.iconst 0, 1) := by decide +kernel
theorem i_178_17 : ins 178 17 = some (.istore_n 3, 1) := by decide +kernel
theorem i_178_18 : ins 178 18 = some (.iload_n 3, 1) := by decide +kernel
theorem i_178_19 : ins 178 19 = some (.bipush 8, 2) := by decide +kernel
theorem i_178_21 : ins 178 21 = some (.if_icmp .ge 27, 3) := by decide +kernel
theorem t_21_48 : tg 21 (27) = some 48 := by decide +kernel
theorem i_178_24 : ins 178 24 = some (.aload_n 0, 1) := by decide +kernel
theorem f_178_209 : fld 178 209 = some (7340134, 88, 2) := by decide +kernel
theorem i_178_25 : ins 178 25 = some (.getfield 209, 3) := by decide +kernel
theorem i_178_28 : ins 178 28 = some (.iload_n 3, 1) := by decide +kernel
theorem i_178_29 : ins 178 29 = some (.iload_n 3, 1) := by decide +kernel
theorem i_178_30 : ins 178 30 = some (.iload_n 1, 1) := by decide +kernel
theorem i_178_31 : ins 178 31 = some (.if_icmp .ne 9, 3) := by decide +kernel
theorem t_31_40 : tg 31 (9) = some 40 := by decide +kernel
theorem i_178_34 : ins 178 34 = some (.sipush 1000, 3) := by decide +kernel
theorem i_178_37 : ins 178 37 = some (.goto 4, 3) := by decide +kernel
theorem t_37_41 : tg 37 (4) = some 41 := by decide +kernel
theorem i_178_40 : ins 178 40 = some (.iconst 0, 1) := by decide +kernel
theorem kl_138412161 : klen 138412161 = 8 := by decide +kernel
theorem i_178_41 : ins 178 41 = some (.iastore, 1) := by decide +kernel
theorem i_178_42 : ins 178 42 = some (.iinc 3 1, 3) := by decide +kernel
theorem i_178_45 : ins 178 45 = some (.goto (-27), 3) := by decide +kernel
theorem t_45_18 : tg 45 (-27) = some 18 := by decide +kernel
theorem i_178_48 : ins 178 48 = some (.iconst 0, 1) := by decide +kernel
theorem i_178_49 : ins 178 49 = some (.istore_n 3, 1) := by decide +kernel
theorem i_178_50 : ins 178 50 = some (.iload_n 3, 1) := by decide +kernel
theorem i_178_51 : ins 178 51 = some (.iconst 3, 1) := by decide +kernel
theorem i_178_52 : ins 178 52 = some (.if_icmp .ge 167, 3) := by decide +kernel
theorem t_52_219 : tg 52 (167) = some 219 := by decide +kernel
theorem i_178_55 : ins 178 55 = some (.iconst 0, 1) := by decide +kernel
theorem i_178_56 : ins 178 56 = some (.istore 4, 2) := by decide +kernel
theorem i_178_58 : ins 178 58 = some (.iload 4, 2) := by decide +kernel
theorem i_178_60 : ins 178 60 = some (.bipush 8, 2) := by decide +kernel
theorem i_178_62 : ins 178 62 = some (.if_icmp .ge 121, 3) := by decide +kernel
theorem i_178_65 : ins 178 65 = some (.lconst 0, 1) := by decide +kernel
theorem i_178_66 : ins 178 66 = some (.lstore 5, 2) := by decide +kernel
theorem i_178_68 : ins 178 68 = some (.aload_n 0, 1) := by decide +kernel
theorem f_178_203 : fld 178 203 = some (7340134, 86, 2) := by decide +kernel
theorem i_178_69 : ins 178 69 = some (.getfield 203, 3) := by decide +kernel
theorem i_178_72 : ins 178 72 = some (.iload 4, 2) := by decide +kernel
theorem i_178_74 : ins 178 74 = some (.iaload, 1) := by decide +kernel
theorem i_178_75 : ins 178 75 = some (.i2l, 1) := by decide +kernel
theorem i_178_76 : ins 178 76 = some (.lstore 7, 2) := by decide +kernel
theorem i_178_78 : ins 178 78 = some (.iconst 0, 1) := by decide +kernel
theorem i_178_79 : ins 178 79 = some (.istore 9, 2) := by decide +kernel
theorem i_178_81 : ins 178 81 = some (.iload 9, 2) := by decide +kernel
theorem i_178_83 : ins 178 83 = some (.bipush 8, 2) := by decide +kernel
theorem i_178_85 : ins 178 85 = some (.if_icmp .ge 56, 3) := by decide +kernel
theorem t_85_141 : tg 85 (56) = some 141 := by decide +kernel
theorem i_178_88 : ins 178 88 = some (.lload 5, 2) := by decide +kernel
theorem i_178_90 : ins 178 90 = some (.aload_n 0, 1) := by decide +kernel
theorem f_178_200 : fld 178 200 = some (7340134, 85, 2) := by decide +kernel
theorem i_178_91 : ins 178 91 = some (.getfield 200, 3) := by decide +kernel
theorem i_178_94 : ins 178 94 = some (.bipush 8, 2) := by decide +kernel
theorem i_178_96 : ins 178 96 = some (.iload 9, 2) := by decide +kernel
theorem i_178_98 : ins 178 98 = some (.imul, 1) := by decide +kernel
theorem i_178_99 : ins 178 99 = some (.iload 4, 2) := by decide +kernel
theorem i_178_101 : ins 178 101 = some (.iadd, 1) := by decide +kernel
theorem i_178_102 : ins 178 102 = some (.iaload, 1) := by decide +kernel
theorem i_178_103 : ins 178 103 = some (.i2l, 1) := by decide +kernel
theorem i_178_104 : ins 178 104 = some (.aload_n 0, 1) := by decide +kernel
theorem i_178_105 : ins 178 105 = some (.getfield 209, 3) := by decide +kernel
theorem i_178_108 : ins 178 108 = some (.iload 9, 2) := by decide +kernel
theorem i_178_110 : ins 178 110 = some (.iaload, 1) := by decide +kernel
theorem i_178_111 : ins 178 111 = some (.i2l, 1) := by decide +kernel
theorem i_178_112 : ins 178 112 = some (.lmul, 1) := by decide +kernel
theorem i_178_113 : ins 178 113 = some (.ladd, 1) := by decide +kernel
theorem i_178_114 : ins 178 114 = some (.lstore 5, 2) := by decide +kernel
theorem i_178_116 : ins 178 116 = some (.lload 7, 2) := by decide +kernel
theorem i_178_118 : ins 178 118 = some (.aload_n 0, 1) := by decide +kernel
theorem i_178_119 : ins 178 119 = some (.getfield 200, 3) := by decide +kernel
theorem i_178_122 : ins 178 122 = some (.bipush 8, 2) := by decide +kernel
theorem i_178_124 : ins 178 124 = some (.iload 9, 2) := by decide +kernel
theorem i_178_126 : ins 178 126 = some (.imul, 1) := by decide +kernel
theorem i_178_127 : ins 178 127 = some (.iload 4, 2) := by decide +kernel
theorem i_178_129 : ins 178 129 = some (.iadd, 1) := by decide +kernel
theorem i_178_130 : ins 178 130 = some (.iaload, 1) := by decide +kernel
theorem i_178_131 : ins 178 131 = some (.i2l, 1) := by decide +kernel
theorem i_178_132 : ins 178 132 = some (.ladd, 1) := by decide +kernel
theorem i_178_133 : ins 178 133 = some (.lstore 7, 2) := by decide +kernel
theorem i_178_135 : ins 178 135 = some (.iinc 9 1, 3) := by decide +kernel
theorem i_178_138 : ins 178 138 = some (.goto (-57), 3) := by decide +kernel
theorem t_138_81 : tg 138 (-57) = some 81 := by decide +kernel
theorem i_178_141 : ins 178 141 = some (.aload_n 0, 1) := by decide +kernel
theorem f_178_212 : fld 178 212 = some (7340134, 89, 2) := by decide +kernel
theorem i_178_142 : ins 178 142 = some (.getfield 212, 3) := by decide +kernel
theorem i_178_145 : ins 178 145 = some (.iload 4, 2) := by decide +kernel
theorem i_178_147 : ins 178 147 = some (.iload 4, 2) := by decide +kernel
theorem i_178_149 : ins 178 149 = some (.iload_n 1, 1) := by decide +kernel
theorem i_178_150 : ins 178 150 = some (.if_icmp .ne 9, 3) := by decide +kernel
theorem t_150_159 : tg 150 (9) = some 159 := by decide +kernel
theorem i_178_153 : ins 178 153 = some (.sipush 1000, 3) := by decide +kernel
theorem i_178_156 : ins 178 156 = some (.goto 20, 3) := by decide +kernel
theorem t_156_176 : tg 156 (20) = some 176 := by decide +kernel
theorem i_178_159 : ins 178 159 = some (.lload 7, 2) := by decide +kernel
theorem i_178_161 : ins 178 161 = some (.lconst 0, 1) := by decide +kernel
theorem t_163_170 : tg 163 (7) = some 170 := by decide +kernel
theorem i_178_162 : ins 178 162 = some (.lcmp, 1) := by decide +kernel
theorem i_178_163 : ins 178 163 = some (.ifCond .ne 7, 3) := by decide +kernel
theorem i_178_166 : ins 178 166 = some (.iconst 0, 1) := by decide +kernel
theorem i_178_167 : ins 178 167 = some (.goto 9, 3) := by decide +kernel
theorem t_167_176 : tg 167 (9) = some 176 := by decide +kernel
theorem i_178_170 : ins 178 170 = some (.lload 5, 2) := by decide +kernel
theorem i_178_172 : ins 178 172 = some (.lload 7, 2) := by decide +kernel
theorem i_178_174 : ins 178 174 = some (.ldiv, 1) := by decide +kernel
theorem i_178_175 : ins 178 175 = some (.l2i, 1) := by decide +kernel
theorem kl_139460737 : klen 139460737 = 8 := by decide +kernel
theorem i_178_176 : ins 178 176 = some (.iastore, 1) := by decide +kernel
theorem i_178_177 : ins 178 177 = some (.iinc 4 1, 3) := by decide +kernel
theorem i_178_180 : ins 178 180 = some (.goto (-122), 3) := by decide +kernel
theorem t_180_58 : tg 180 (-122) = some 58 := by decide +kernel
theorem i_178_183 : ins 178 183 = some (.iconst 0, 1) := by decide +kernel
theorem i_178_184 : ins 178 184 = some (.istore 4, 2) := by decide +kernel
theorem i_178_186 : ins 178 186 = some (.iload 4, 2) := by decide +kernel
theorem i_178_188 : ins 178 188 = some (.bipush 8, 2) := by decide +kernel
theorem i_178_190 : ins 178 190 = some (.if_icmp .ge 23, 3) := by decide +kernel
theorem t_190_213 : tg 190 (23) = some 213 := by decide +kernel
theorem i_178_193 : ins 178 193 = some (.aload_n 0, 1) := by decide +kernel
theorem i_178_194 : ins 178 194 = some (.getfield 209, 3) := by decide +kernel
theorem i_178_197 : ins 178 197 = some (.iload 4, 2) := by decide +kernel
theorem i_178_199 : ins 178 199 = some (.aload_n 0, 1) := by decide +kernel
theorem i_178_200 : ins 178 200 = some (.getfield 212, 3) := by decide +kernel
theorem i_178_203 : ins 178 203 = some (.iload 4, 2) := by decide +kernel
theorem i_178_205 : ins 178 205 = some (.iaload, 1) := by decide +kernel
theorem i_178_206 : ins 178 206 = some (.iastore, 1) := by decide +kernel
theorem i_178_207 : ins 178 207 = some (.iinc 4 1, 3) := by decide +kernel
theorem i_178_210 : ins 178 210 = some (.goto (-24), 3) := by decide +kernel
theorem t_210_186 : tg 210 (-24) = some 186 := by decide +kernel
theorem i_178_213 : ins 178 213 = some (.iinc 3 1, 3) := by decide +kernel
theorem i_178_216 : ins 178 216 = some (.goto (-166), 3) := by decide +kernel
theorem t_216_50 : tg 216 (-166) = some 50 := by decide +kernel
theorem i_178_219 : ins 178 219 = some (.aload_n 0, 1) := by decide +kernel
theorem i_178_220 : ins 178 220 = some (.getfield 209, 3) := by decide +kernel
theorem i_178_223 : ins 178 223 = some (.iload_n 2, 1) := by decide +kernel
theorem i_178_224 : ins 178 224 = some (.iaload, 1) := by decide +kernel
theorem i_178_225 : ins 178 225 = some (.ireturn, 1) := by decide +kernel
theorem i_179_0 : ins 179 0 = some (.iload_n 1, 1) := by decide +kernel
theorem v_179_590 : inv 179 590 = some (176, 1, 0, 0) := by decide +kernel
theorem i_179_1 : ins 179 1 = some (.invokestatic 590, 3) := by decide +kernel
theorem i_179_4 : ins 179 4 = some (.ifCond .eq 15, 3) := by decide +kernel
theorem i_179_7 : ins 179 7 = some (.iload_n 2, 1) := by decide +kernel
theorem i_179_8 : ins 179 8 = some (.invokestatic 590, 3) := by decide +kernel
theorem i_179_11 : ins 179 11 = some (.ifCond .eq 8, 3) := by decide +kernel
theorem t_11_19 : tg 11 (8) = some 19 := by decide +kernel
theorem i_179_14 : ins 179 14 = some (.iload_n 1, 1) := by decide +kernel
theorem i_179_15 : ins 179 15 = some (.iload_n 2, 1) := by decide +kernel
theorem i_179_16 : ins 179 16 = some (.if_icmp .ne 5, 3) := by decide +kernel
theorem i_179_19 : ins 179 19 = some (.iconst (-1), 1) := by decide +kernel
theorem r_179 : mret 179 = 1 := by decide +kernel
theorem i_179_20 : ins 179 20 = some (.ireturn, 1) := by decide +kernel
theorem i_179_21 : ins 179 21 = some (.aload_n 0, 1) := by decide +kernel
theorem f_179_200 : fld 179 200 = some (7340134, 85, 2) := by decide +kernel
theorem i_179_22 : ins 179 22 = some (.getfield 200, 3) := by decide +kernel
theorem i_179_25 : ins 179 25 = some (.bipush 8, 2) := by decide +kernel
theorem i_179_27 : ins 179 27 = some (.iload_n 1, 1) := by decide +kernel
theorem i_179_28 : ins 179 28 = some (.imul, 1) := by decide +kernel
theorem i_179_29 : ins 179 29 = some (.iload_n 2, 1) := by decide +kernel
theorem i_179_30 : ins 179 30 = some (.iadd, 1) := by decide +kernel
theorem i_179_31 : ins 179 31 = some (.iaload, 1) := by decide +kernel
theorem i_179_32 : ins 179 32 = some (.istore_n 3, 1) := by decide +kernel
theorem i_179_33 : ins 179 33 = some (.aload_n 0, 1) := by decide +kernel
theorem i_179_34 : ins 179 34 = some (.iload_n 3, 1) := by decide +kernel
theorem i_179_35 : ins 179 35 = some (.ifCond .le 7, 3) := by decide +kernel
theorem i_179_38 : ins 179 38 = some (.iconst 2, 1) := by decide +kernel
theorem i_179_39 : ins 179 39 = some (.goto 4, 3) := by decide +kernel
theorem i_179_42 : ins 179 42 = some (.iconst 0, 1) := by decide +kernel
theorem f_179_593 : fld 179 593 = some (7340134, 84, 0) := by decide +kernel
theorem o_179_7340134_84 : putok 179 7340134 84 = true := by decide +kernel
theorem i_179_43 : ins 179 43 = some (.putfield 593, 3) := by decide +kernel
theorem i_179_46 : ins 179 46 = some (.aload_n 0, 1) := by decide +kernel
theorem f_179_206 : fld 179 206 = some (7340134, 87, 2) := by decide +kernel
theorem i_179_47 : ins 179 47 = some (.getfield 206, 3) := by decide +kernel
theorem i_179_50 : ins 179 50 = some (.iconst 0, 1) := by decide +kernel
theorem i_179_51 : ins 179 51 = some (.iload_n 1, 1) := by decide +kernel
theorem kl_137363521 : klen 137363521 = 4 := by decide +kernel
theorem i_179_52 : ins 179 52 = some (.iastore, 1) := by decide +kernel
theorem i_179_53 : ins 179 53 = some (.aload_n 0, 1) := by decide +kernel
theorem i_179_54 : ins 179 54 = some (.getfield 206, 3) := by decide +kernel
theorem i_179_57 : ins 179 57 = some (.iconst 1, 1) := by decide +kernel
theorem i_179_58 : ins 179 58 = some (.iload_n 2, 1) := by decide +kernel
theorem i_179_59 : ins 179 59 = some (.iastore, 1) := by decide +kernel
theorem i_179_60 : ins 179 60 = some (.iconst 0, 1) := by decide +kernel
theorem i_179_61 : ins 179 61 = some (.istore 4, 2) := by decide +kernel
theorem i_179_63 : ins 179 63 = some (.iload 4, 2) := by decide +kernel
theorem i_179_65 : ins 179 65 = some (.bipush 8, 2) := by decide +kernel
theorem i_179_67 : ins 179 67 = some (.if_icmp .ge 79, 3) := by decide +kernel
theorem t_67_146 : tg 67 (79) = some 146 := by decide +kernel
theorem i_179_70 : ins 179 70 = some (.iload 4, 2) := by decide +kernel
theorem i_179_72 : ins 179 72 = some (.iload_n 1, 1) := by decide +kernel
theorem i_179_73 : ins 179 73 = some (.if_icmp .eq 67, 3) := by decide +kernel
theorem t_73_140 : tg 73 (67) = some 140 := by decide +kernel
theorem i_179_76 : ins 179 76 = some (.iload 4, 2) := by decide +kernel
theorem i_179_78 : ins 179 78 = some (.iload_n 2, 1) := by decide +kernel
theorem i_179_79 : ins 179 79 = some (.if_icmp .eq 61, 3) := by decide +kernel
theorem t_79_140 : tg 79 (61) = some 140 := by decide +kernel
theorem i_179_82 : ins 179 82 = some (.aload_n 0, 1) := by decide +kernel
theorem i_179_83 : ins 179 83 = some (.getfield 200, 3) := by decide +kernel
theorem i_179_86 : ins 179 86 = some (.bipush 8, 2) := by decide +kernel
theorem i_179_88 : ins 179 88 = some (.iload_n 1, 1) := by decide +kernel
theorem i_179_89 : ins 179 89 = some (.imul, 1) := by decide +kernel
theorem i_179_90 : ins 179 90 = some (.iload 4, 2) := by decide +kernel
theorem i_179_92 : ins 179 92 = some (.iadd, 1) := by decide +kernel
theorem i_179_93 : ins 179 93 = some (.iaload, 1) := by decide +kernel
theorem i_179_94 : ins 179 94 = some (.aload_n 0, 1) := by decide +kernel
theorem i_179_95 : ins 179 95 = some (.getfield 200, 3) := by decide +kernel
theorem i_179_98 : ins 179 98 = some (.bipush 8, 2) := by decide +kernel
theorem i_179_100 : ins 179 100 = some (.iload 4, 2) := by decide +kernel
theorem i_179_102 : ins 179 102 = some (.imul, 1) := by decide +kernel
theorem i_179_103 : ins 179 103 = some (.iload_n 2, 1) := by decide +kernel
theorem i_179_104 : ins 179 104 = some (.iadd, 1) := by decide +kernel
theorem i_179_105 : ins 179 105 = some (.iaload, 1) := by decide +kernel
theorem v_179_596 : inv 179 596 = some (180, 2, 0, 0) := by decide +kernel
theorem i_179_106 : ins 179 106 = some (.invokestatic 596, 3) := by decide +kernel
theorem i_179_109 : ins 179 109 = some (.istore 5, 2) := by decide +kernel
theorem i_179_111 : ins 179 111 = some (.iload 5, 2) := by decide +kernel
theorem i_179_113 : ins 179 113 = some (.iload_n 3, 1) := by decide +kernel
theorem i_179_114 : ins 179 114 = some (.if_icmp .le 26, 3) := by decide +kernel
theorem i_179_117 : ins 179 117 = some (.iload 5, 2) := by decide +kernel
theorem i_179_119 : ins 179 119 = some (.istore_n 3, 1) := by decide +kernel
theorem i_179_120 : ins 179 120 = some (.aload_n 0, 1) := by decide +kernel
theorem i_179_121 : ins 179 121 = some (.iconst 3, 1) := by decide +kernel
theorem i_179_122 : ins 179 122 = some (.putfield 593, 3) := by decide +kernel
theorem i_179_125 : ins 179 125 = some (.aload_n 0, 1) := by decide +kernel
theorem i_179_126 : ins 179 126 = some (.getfield 206, 3) := by decide +kernel
theorem i_179_129 : ins 179 129 = some (.iconst 1, 1) := by decide +kernel
theorem i_179_130 : ins 179 130 = some (.iload 4, 2) := by decide +kernel
theorem i_179_132 : ins 179 132 = some (.iastore, 1) := by decide +kernel
theorem i_179_133 : ins 179 133 = some (.aload_n 0, 1) := by decide +kernel
theorem i_179_134 : ins 179 134 = some (.getfield 206, 3) := by decide +kernel
theorem i_179_137 : ins 179 137 = some (.iconst 2, 1) := by decide +kernel
theorem i_179_138 : ins 179 138 = some (.iload_n 2, 1) := by decide +kernel
theorem i_179_139 : ins 179 139 = some (.iastore, 1) := by decide +kernel
theorem i_179_140 : ins 179 140 = some (.iinc 4 1, 3) := by decide +kernel
theorem i_179_143 : ins 179 143 = some (.goto (-80), 3) := by decide +kernel
theorem t_143_63 : tg 143 (-80) = some 63 := by decide +kernel
theorem i_179_146 : ins 179 146 = some (.iconst 0, 1) := by decide +kernel
theorem i_179_147 : ins 179 147 = some (.istore 4, 2) := by decide +kernel
theorem i_179_149 : ins 179 149 = some (.iload 4, 2) := by decide +kernel
theorem i_179_151 : ins 179 151 = some (.bipush 8, 2) := by decide +kernel
theorem i_179_153 : ins 179 153 = some (.if_icmp .ge 142, 3) := by decide +kernel
theorem t_153_295 : tg 153 (142) = some 295 := by decide +kernel
theorem i_179_156 : ins 179 156 = some (.iconst 0, 1) := by decide +kernel
theorem i_179_157 : ins 179 157 = some (.istore 5, 2) := by decide +kernel
theorem i_179_159 : ins 179 159 = some (.iload 5, 2) := by decide +kernel
theorem i_179_161 : ins 179 161 = some (.bipush 8, 2) := by decide +kernel
theorem i_179_163 : ins 179 163 = some (.if_icmp .ge 126, 3) := by decide +kernel
theorem t_163_289 : tg 163 (126) = some 289 := by decide +kernel
theorem i_179_166 : ins 179 166 = some (.iload 4, 2) := by decide +kernel
theorem i_179_168 : ins 179 168 = some (.iload_n 1, 1) := by decide +kernel
theorem i_179_169 : ins 179 169 = some (.if_icmp .eq 120, 3) := by decide +kernel
theorem t_169_289 : tg 169 (120) = some 289 := by decide +kernel
theorem i_179_172 : ins 179 172 = some (.iload 4, 2) := by decide +kernel
theorem i_179_174 : ins 179 174 = some (.iload_n 2, 1) := by decide +kernel
theorem i_179_175 : ins 179 175 = some (.if_icmp .eq 114, 3) := by decide +kernel
theorem t_175_289 : tg 175 (114) = some 289 := by decide +kernel
theorem i_179_178 : ins 179 178 = some (.iload 5, 2) := by decide +kernel
theorem i_179_180 : ins 179 180 = some (.iload_n 1, 1) := by decide +kernel
theorem i_179_181 : ins 179 181 = some (.if_icmp .eq 16, 3) := by decide +kernel
theorem t_181_197 : tg 181 (16) = some 197 := by decide +kernel
theorem i_179_184 : ins 179 184 = some (.iload 5, 2) := by decide +kernel
theorem i_179_186 : ins 179 186 = some (.iload_n 2, 1) := by decide +kernel
theorem i_179_187 : ins 179 187 = some (.if_icmp .eq 10, 3) := by decide +kernel
theorem t_187_197 : tg 187 (10) = some 197 := by decide +kernel
theorem i_179_190 : ins 179 190 = some (.iload 5, 2) := by decide +kernel
theorem i_179_192 : ins 179 192 = some (.iload 4, 2) := by decide +kernel
theorem i_179_194 : ins 179 194 = some (.if_icmp .ne 7, 3) := by decide +kernel
theorem i_179_197 : ins 179 197 = some (.iconst 0, 1) := by decide +kernel
theorem i_179_198 : ins 179 198 = some (.goto 46, 3) := by decide +kernel
theorem t_198_244 : tg 198 (46) = some 244 := by decide +kernel
theorem i_179_201 : ins 179 201 = some (.aload_n 0, 1) := by decide +kernel
theorem i_179_202 : ins 179 202 = some (.getfield 200, 3) := by decide +kernel
theorem i_179_205 : ins 179 205 = some (.bipush 8, 2) := by decide +kernel
theorem i_179_207 : ins 179 207 = some (.iload_n 1, 1) := by decide +kernel
theorem i_179_208 : ins 179 208 = some (.imul, 1) := by decide +kernel
theorem i_179_209 : ins 179 209 = some (.iload 4, 2) := by decide +kernel
theorem i_179_211 : ins 179 211 = some (.iadd, 1) := by decide +kernel
theorem i_179_212 : ins 179 212 = some (.iaload, 1) := by decide +kernel
theorem i_179_213 : ins 179 213 = some (.aload_n 0, 1) := by decide +kernel
theorem i_179_214 : ins 179 214 = some (.getfield 200, 3) := by decide +kernel
theorem i_179_217 : ins 179 217 = some (.bipush 8, 2) := by decide +kernel
theorem i_179_219 : ins 179 219 = some (.iload 4, 2) := by decide +kernel
theorem i_179_221 : ins 179 221 = some (.imul, 1) := by decide +kernel
theorem i_179_222 : ins 179 222 = some (.iload 5, 2) := by decide +kernel
theorem i_179_224 : ins 179 224 = some (.iadd, 1) := by decide +kernel
theorem i_179_225 : ins 179 225 = some (.iaload, 1) := by decide +kernel
theorem i_179_226 : ins 179 226 = some (.aload_n 0, 1) := by decide +kernel
theorem i_179_227 : ins 179 227 = some (.getfield 200, 3) := by decide +kernel
theorem i_179_230 : ins 179 230 = some (.bipush 8, 2) := by decide +kernel
theorem i_179_232 : ins 179 232 = some (.iload 5, 2) := by decide +kernel
theorem i_179_234 : ins 179 234 = some (.imul, 1) := by decide +kernel
theorem i_179_235 : ins 179 235 = some (.iload_n 2, 1) := by decide +kernel
theorem i_179_236 : ins 179 236 = some (.iadd, 1) := by decide +kernel
theorem i_179_237 : ins 179 237 = some (.iaload, 1) := by decide +kernel
theorem i_179_238 : ins 179 238 = some (.invokestatic 596, 3) := by decide +kernel
theorem i_179_241 : ins 179 241 = some (.invokestatic 596, 3) := by decide +kernel
theorem i_179_244 : ins 179 244 = some (.istore 6, 2) := by decide +kernel
theorem i_179_246 : ins 179 246 = some (.iload 6, 2) := by decide +kernel
theorem i_179_248 : ins 179 248 = some (.iload_n 3, 1) := by decide +kernel
theorem i_179_249 : ins 179 249 = some (.if_icmp .le 34, 3) := by decide +kernel
theorem t_249_283 : tg 249 (34) = some 283 := by decide +kernel
theorem i_179_252 : ins 179 252 = some (.iload 6, 2) := by decide +kernel
theorem i_179_254 : ins 179 254 = some (.istore_n 3, 1) := by decide +kernel
theorem i_179_255 : ins 179 255 = some (.aload_n 0, 1) := by decide +kernel
theorem i_179_256 : ins 179 256 = some (.iconst 4, 1) := by decide +kernel
theorem i_179_257 : ins 179 257 = some (.putfield 593, 3) := by decide +kernel
theorem i_179_260 : ins 179 260 = some (.aload_n 0, 1) := by decide +kernel
theorem i_179_261 : ins 179 261 = some (.getfield 206, 3) := by decide +kernel
theorem i_179_264 : ins 179 264 = some (.iconst 1, 1) := by decide +kernel
theorem i_179_265 : ins 179 265 = some (.iload 4, 2) := by decide +kernel
theorem i_179_267 : ins 179 267 = some (.iastore, 1) := by decide +kernel
theorem i_179_268 : ins 179 268 = some (.aload_n 0, 1) := by decide +kernel
theorem i_179_269 : ins 179 269 = some (.getfield 206, 3) := by decide +kernel
theorem i_179_272 : ins 179 272 = some (.iconst 2, 1) := by decide +kernel
theorem i_179_273 : ins 179 273 = some (.iload 5, 2) := by decide +kernel
theorem i_179_275 : ins 179 275 = some (.iastore, 1) := by decide +kernel
theorem i_179_276 : ins 179 276 = some (.aload_n 0, 1) := by decide +kernel
theorem i_179_277 : ins 179 277 = some (.getfield 206, 3) := by decide +kernel
theorem i_179_280 : ins 179 280 = some (.iconst 3, 1) := by decide +kernel
theorem i_179_281 : ins 179 281 = some (.iload_n 2, 1) := by decide +kernel
theorem i_179_282 : ins 179 282 = some (.iastore, 1) := by decide +kernel
theorem i_179_283 : ins 179 283 = some (.iinc 5 1, 3) := by decide +kernel
theorem i_179_286 : ins 179 286 = some (.goto (-127), 3) := by decide +kernel
theorem t_286_159 : tg 286 (-127) = some 159 := by decide +kernel
theorem i_179_289 : ins 179 289 = some (.iinc 4 1, 3) := by decide +kernel
theorem i_179_292 : ins 179 292 = some (.goto (-143), 3) := by decide +kernel
theorem t_292_149 : tg 292 (-143) = some 149 := by decide +kernel
theorem i_179_295 : ins 179 295 = some (.iload_n 3, 1) := by decide +kernel
theorem i_179_296 : ins 179 296 = some (.ireturn, 1) := by decide +kernel
theorem i_180_0 : ins 180 0 = some (.iload_n 0, 1) := by decide +kernel
theorem i_180_1 : ins 180 1 = some (.iload_n 1, 1) := by decide +kernel
theorem i_180_2 : ins 180 2 = some (.if_icmp .ge 7, 3) := by decide +kernel
theorem t_2_9 : tg 2 (7) = some 9 := by decide +kernel
theorem i_180_5 : ins 180 5 = some (.iload_n 0, 1) := by decide +kernel
theorem i_180_6 : ins 180 6 = some (.goto 4, 3) := by decide +kernel
theorem t_6_10 : tg 6 (4) = some 10 := by decide +kernel
theorem i_180_9 : ins 180 9 = some (.iload_n 1, 1) := by decide +kernel
theorem r_180 : mret 180 = 1 := by decide +kernel
theorem i_180_10 : ins 180 10 = some (.ireturn, 1) := by decide +kernel
theorem i_181_0 : ins 181 0 = some (.iload_n 1, 1) := by decide +kernel
theorem i_181_1 : ins 181 1 = some (.iconst 0, 1) := by decide +kernel
theorem i_181_2 : ins 181 2 = some (.aload_n 0, 1) := by decide +kernel
theorem f_181_593 : fld 181 593 = some (7340134, 84, 0) := by decide +kernel
theorem i_181_3 : ins 181 3 = some (.getfield 593, 3) := by decide +kernel
theorem i_181_6 : ins 181 6 = some (.iconst 1, 1) := by decide +kernel
theorem i_181_7 : ins 181 7 = some (.isub, 1) := by decide +kernel
theorem v_181_260 : inv 181 260 = some (94, 3, 0, 0) := by decide +kernel
theorem i_181_8 : ins 181 8 = some (.invokestatic 260, 3) := by decide +kernel
theorem i_181_11 : ins 181 11 = some (.ifCond .eq 12, 3) := by decide +kernel
theorem i_181_14 : ins 181 14 = some (.aload_n 0, 1) := by decide +kernel
theorem f_181_206 : fld 181 206 = some (7340134, 87, 2) := by decide +kernel
theorem i_181_15 : ins 181 15 = some (.getfield 206, 3) := by decide +kernel
theorem i_181_18 : ins 181 18 = some (.iload_n 1, 1) := by decide +kernel
theorem i_181_19 : ins 181 19 = some (.iaload, 1) := by decide +kernel
theorem i_181_20 : ins 181 20 = some (.goto 4, 3) := by decide +kernel
theorem i_181_23 : ins 181 23 = some (.iconst (-1), 1) := by decide +kernel
theorem r_181 : mret 181 = 1 := by decide +kernel
theorem i_181_24 : ins 181 24 = some (.ireturn, 1) := by decide +kernel
theorem i_182_0 : ins 182 0 = some (.aload_n 0, 1) := by decide +kernel
theorem f_182_599 : fld 182 599 = some (7340134, 90, 0) := by decide +kernel
theorem i_182_1 : ins 182 1 = some (.getfield 599, 3) := by decide +kernel
theorem i_182_4 : ins 182 4 = some (.bipush 60, 2) := by decide +kernel
theorem i_182_6 : ins 182 6 = some (.if_icmp .eq 44, 3) := by decide +kernel
theorem i_182_9 : ins 182 9 = some (.aload_n 0, 1) := by decide +kernel
theorem i_182_10 : ins 182 10 = some (.iload_n 1, 1) := by decide +kernel
theorem v_182_277 : inv 182 277 = some (99, 1, 1, 7340134) := by decide +kernel
theorem i_182_11 : ins 182 11 = some (.invokevirtual 277, 3) := by decide +kernel
theorem i_182_14 : ins 182 14 = some (.ifCond .eq 36, 3) := by decide +kernel
theorem t_14_50 : tg 14 (36) = some 50 := by decide +kernel
theorem i_182_17 : ins 182 17 = some (.iload_n 2, 1) := by decide +kernel
theorem v_182_270 : inv 182 270 = some (97, 1, 0, 0) := by decide +kernel
theorem i_182_18 : ins 182 18 = some (.invokestatic 270, 3) := by decide +kernel
theorem i_182_21 : ins 182 21 = some (.ifCond .eq 29, 3) := by decide +kernel
theorem t_21_50 : tg 21 (29) = some 50 := by decide +kernel
theorem i_182_24 : ins 182 24 = some (.iload_n 3, 1) := by decide +kernel
theorem i_182_25 : ins 182 25 = some (.aload_n 0, 1) := by decide +kernel
theorem f_182_264 : fld 182 264 = some (7340134, 1, 0) := by decide +kernel
theorem i_182_26 : ins 182 26 = some (.getfield 264, 3) := by decide +kernel
theorem i_182_29 : ins 182 29 = some (.sipush 3999, 3) := by decide +kernel
theorem v_182_260 : inv 182 260 = some (94, 3, 0, 0) := by decide +kernel
theorem i_182_32 : ins 182 32 = some (.invokestatic 260, 3) := by decide +kernel
theorem i_182_35 : ins 182 35 = some (.ifCond .eq 15, 3) := by decide +kernel
theorem i_182_38 : ins 182 38 = some (.iload 4, 2) := by decide +kernel
theorem i_182_40 : ins 182 40 = some (.iconst 0, 1) := by decide +kernel
theorem i_182_41 : ins 182 41 = some (.sipush 9999, 3) := by decide +kernel
theorem i_182_44 : ins 182 44 = some (.invokestatic 260, 3) := by decide +kernel
theorem i_182_47 : ins 182 47 = some (.ifCond .ne 5, 3) := by decide +kernel
theorem i_182_50 : ins 182 50 = some (.iconst (-1), 1) := by decide +kernel
theorem r_182 : mret 182 = 1 := by decide +kernel
theorem i_182_51 : ins 182 51 = some (.ireturn, 1) := by decide +kernel
theorem i_182_52 : ins 182 52 = some (.aload_n 0, 1) := by decide +kernel
theorem f_182_215 : fld 182 215 = some (7340134, 91, 2) := by decide +kernel
theorem i_182_53 : ins 182 53 = some (.getfield 215, 3) := by decide +kernel
theorem i_182_56 : ins 182 56 = some (.aload_n 0, 1) := by decide +kernel
theorem i_182_57 : ins 182 57 = some (.getfield 599, 3) := by decide +kernel
theorem i_182_60 : ins 182 60 = some (.iload_n 1, 1) := by decide +kernel
theorem kl_140510145 : klen 140510145 = 60 := by decide +kernel
theorem i_182_61 : ins 182 61 = some (.iastore, 1) := by decide +kernel
theorem i_182_62 : ins 182 62 = some (.aload_n 0, 1) := by decide +kernel
theorem f_182_218 : fld 182 218 = some (7340134, 92, 2) := by decide +kernel
theorem i_182_63 : ins 182 63 = some (.getfield 218, 3) := by decide +kernel
theorem i_182_66 : ins 182 66 = some (.aload_n 0, 1) := by decide +kernel
theorem i_182_67 : ins 182 67 = some (.getfield 599, 3) := by decide +kernel
theorem i_182_70 : ins 182 70 = some (.iload_n 2, 1) := by decide +kernel
theorem kl_141558721 : klen 141558721 = 60 := by decide +kernel
theorem i_182_71 : ins 182 71 = some (.iastore, 1) := by decide +kernel
theorem i_182_72 : ins 182 72 = some (.aload_n 0, 1) := by decide +kernel
theorem f_182_221 : fld 182 221 = some (7340134, 93, 2) := by decide +kernel
theorem i_182_73 : ins 182 73 = some (.getfield 221, 3) := by decide +kernel
theorem i_182_76 : ins 182 76 = some (.aload_n 0, 1) := by decide +kernel
theorem i_182_77 : ins 182 77 = some (.getfield 599, 3) := by decide +kernel
theorem i_182_80 : ins 182 80 = some (.iload_n 3, 1) := by decide +kernel
theorem kl_142607297 : klen 142607297 = 60 := by decide +kernel
theorem i_182_81 : ins 182 81 = some (.iastore, 1) := by decide +kernel
theorem i_182_82 : ins 182 82 = some (.aload_n 0, 1) := by decide +kernel
theorem f_182_224 : fld 182 224 = some (7340134, 94, 2) := by decide +kernel
theorem i_182_83 : ins 182 83 = some (.getfield 224, 3) := by decide +kernel
theorem i_182_86 : ins 182 86 = some (.aload_n 0, 1) := by decide +kernel
theorem i_182_87 : ins 182 87 = some (.getfield 599, 3) := by decide +kernel
theorem i_182_90 : ins 182 90 = some (.iload 4, 2) := by decide +kernel
theorem kl_143655873 : klen 143655873 = 60 := by decide +kernel
theorem i_182_92 : ins 182 92 = some (.iastore, 1) := by decide +kernel
theorem i_182_93 : ins 182 93 = some (.aload_n 0, 1) := by decide +kernel
theorem i_182_94 : ins 182 94 = some (.dup, 1) := by decide +kernel
theorem i_182_95 : ins 182 95 = some (.getfield 599, 3) := by decide +kernel
theorem i_182_98 : ins 182 98 = some (.iconst 1, 1) := by decide +kernel
theorem i_182_99 : ins 182 99 = some (.iadd, 1) := by decide +kernel
theorem o_182_7340134_90 : putok 182 7340134 90 = true := by decide +kernel
theorem i_182_100 : ins 182 100 = some (.putfield 599, 3) := by decide +kernel
theorem i_182_103 : ins 182 103 = some (.aload_n 0, 1) := by decide +kernel
theorem i_182_104 : ins 182 104 = some (.getfield 599, 3) := by decide +kernel
theorem i_182_107 : ins 182 107 = some (.ireturn, 1) := by decide +kernel
theorem i_183_0 : ins 183 0 = some (.aload_n 0, 1) := by decide +kernel
theorem i_183_1 : ins 183 1 = some (.iload_n 1, 1) := by decide +kernel
theorem v_183_277 : inv 183 277 = some (99, 1, 1, 7340134) := by decide +kernel
theorem i_183_2 : ins 183 2 = some (.invokevirtual 277, 3) := by decide +kernel
theorem i_183_5 : ins 183 5 = some (.ifCond .eq 10, 3) := by decide +kernel
theorem i_183_8 : ins 183 8 = some (.iload_n 2, 1) := by decide +kernel
theorem v_183_283 : inv 183 283 = some (102, 1, 0, 0) := by decide +kernel
theorem i_183_9 : ins 183 9 = some (.invokestatic 283, 3) := by decide +kernel
theorem i_183_12 : ins 183 12 = some (.ifCond .ne 5, 3) := by decide +kernel
theorem i_183_15 : ins 183 15 = some (.iconst (-1), 1) := by decide +kernel
theorem r_183 : mret 183 = 1 := by decide +kernel
theorem i_183_16 : ins 183 16 = some (.ireturn, 1) := by decide +kernel
theorem i_183_17 : ins 183 17 = some (.aload_n 0, 1) := by decide +kernel
theorem i_183_18 : ins 183 18 = some (.iload_n 1, 1) := by decide +kernel
theorem i_183_19 : ins 183 19 = some (.iload_n 2, 1) := by decide +kernel
theorem v_183_530 : inv 183 530 = some (144, 2, 1, 7340134) := by decide +kernel
theorem i_183_20 : ins 183 20 = some (.invokevirtual 530, 3) := by decide +kernel
theorem i_183_23 : ins 183 23 = some (.iconst 0, 1) := by decide +kernel
theorem i_183_24 : ins 183 24 = some (.istore 4, 2) := by decide +kernel
theorem i_183_26 : ins 183 26 = some (.iconst 0, 1) := by decide +kernel
theorem i_183_27 : ins 183 27 = some (.istore 5, 2) := by decide +kernel
theorem i_183_29 : ins 183 29 = some (.iload 5, 2) := by decide +kernel
theorem i_183_31 : ins 183 31 = some (.aload_n 0, 1) := by decide +kernel
theorem f_183_290 : fld 183 290 = some (7340134, 11, 0) := by decide +kernel
theorem i_183_32 : ins 183 32 = some (.getfield 290, 3) := by decide +kernel
theorem i_183_35 : ins 183 35 = some (.if_icmp .ge 50, 3) := by decide +kernel
theorem t_35_85 : tg 35 (50) = some 85 := by decide +kernel
theorem i_183_38 : ins 183 38 = some (.aload_n 0, 1) := by decide +kernel
theorem f_183_118 : fld 183 118 = some (7340134, 54, 2) := by decide +kernel
theorem i_183_39 : ins 183 39 = some (.getfield 118, 3) := by decide +kernel
theorem i_183_42 : ins 183 42 = some (.iload 5, 2) := by decide +kernel
theorem i_183_44 : ins 183 44 = some (.baload, 1) := by decide +kernel
theorem i_183_45 : ins 183 45 = some (.ifCond .eq 34, 3) := by decide +kernel
theorem t_45_79 : tg 45 (34) = some 79 := by decide +kernel
theorem i_183_48 : ins 183 48 = some (.aload_n 0, 1) := by decide +kernel
theorem f_183_52 : fld 183 52 = some (7340134, 20, 2) := by decide +kernel
theorem i_183_49 : ins 183 49 = some (.getfield 52, 3) := by decide +kernel
theorem i_183_52 : ins 183 52 = some (.iload 5, 2) := by decide +kernel
theorem i_183_54 : ins 183 54 = some (.baload, 1) := by decide +kernel
theorem i_183_55 : ins 183 55 = some (.ifCond .eq 24, 3) := by decide +kernel
theorem t_55_79 : tg 55 (24) = some 79 := by decide +kernel
theorem i_183_58 : ins 183 58 = some (.aload_n 0, 1) := by decide +kernel
theorem i_183_59 : ins 183 59 = some (.iload 5, 2) := by decide +kernel
theorem v_183_602 : inv 183 602 = some (184, 1, 1, 7340134) := by decide +kernel
theorem i_183_61 : ins 183 61 = some (.invokevirtual 602, 3) := by decide +kernel
theorem i_183_64 : ins 183 64 = some (.ifCond .eq 15, 3) := by decide +kernel
theorem t_64_79 : tg 64 (15) = some 79 := by decide +kernel
theorem i_183_67 : ins 183 67 = some (.iload 4, 2) := by decide +kernel
theorem i_183_69 : ins 183 69 = some (.iload_n 3, 1) := by decide +kernel
theorem i_183_70 : ins 183 70 = some (.if_icmp .ne 6, 3) := by decide +kernel
theorem t_70_76 : tg 70 (6) = some 76 := by decide +kernel
theorem i_183_73 : ins 183 73 = some (.iload 5, 2) := by decide +kernel
theorem i_183_75 : ins 183 75 = some (.ireturn, 1) := by decide +kernel
theorem i_183_76 : ins 183 76 = some (.iinc 4 1, 3) := by decide +kernel
theorem i_183_79 : ins 183 79 = some (.iinc 5 1, 3) := by decide +kernel
theorem i_183_82 : ins 183 82 = some (.goto (-53), 3) := by decide +kernel
theorem t_82_29 : tg 82 (-53) = some 29 := by decide +kernel
theorem i_183_85 : ins 183 85 = some (.iload_n 3, 1) := by decide +kernel
theorem i_183_86 : ins 183 86 = some (.iconst (-1), 1) := by decide +kernel
theorem i_183_87 : ins 183 87 = some (.if_icmp .ne 8, 3) := by decide +kernel
theorem i_183_90 : ins 183 90 = some (.iload 4, 2) := by decide +kernel
theorem i_183_92 : ins 183 92 = some (.goto 4, 3) := by decide +kernel
theorem i_183_95 : ins 183 95 = some (.iconst (-1), 1) := by decide +kernel
theorem i_183_96 : ins 183 96 = some (.ireturn, 1) := by decide +kernel
theorem i_184_0 : ins 184 0 = some (.iconst (-1), 1) := by decide +kernel
theorem i_184_1 : ins 184 1 = some (.istore_n 2, 1) := by decide +kernel
theorem i_184_2 : ins 184 2 = some (.iconst 0, 1) := by decide +kernel
theorem i_184_3 : ins 184 3 = some (.istore_n 3, 1) := by decide +kernel
theorem i_184_4 : ins 184 4 = some (.iload_n 3, 1) := by decide +kernel
theorem i_184_5 : ins 184 5 = some (.aload_n 0, 1) := by decide +kernel
theorem f_184_599 : fld 184 599 = some (7340134, 90, 0) := by decide +kernel
theorem i_184_6 : ins 184 6 = some (.getfield 599, 3) := by decide +kernel
theorem i_184_9 : ins 184 9 = some (.if_icmp .ge 76, 3) := by decide +kernel
theorem t_9_85 : tg 9 (76) = some 85 := by decide +kernel
theorem i_184_12 : ins 184 12 = some (.aload_n 0, 1) := by decide +kernel
theorem f_184_215 : fld 184 215 = some (7340134, 91, 2) := by decide +kernel
theorem i_184_13 : ins 184 13 = some (.getfield 215, 3) := by decide +kernel
theorem i_184_16 : ins 184 16 = some (.iload_n 3, 1) := by decide +kernel
theorem i_184_17 : ins 184 17 = some (.iaload, 1) := by decide +kernel
theorem i_184_18 : ins 184 18 = some (.aload_n 0, 1) := by decide +kernel
theorem f_184_31 : fld 184 31 = some (7340134, 13, 2) := by decide +kernel
theorem i_184_19 : ins 184 19 = some (.getfield 31, 3) := by decide +kernel
theorem i_184_22 : ins 184 22 = some (.iload_n 1, 1) := by decide +kernel
theorem i_184_23 : ins 184 23 = some (.iaload, 1) := by decide +kernel
theorem i_184_24 : ins 184 24 = some (.if_icmp .ne 55, 3) := by decide +kernel
theorem i_184_27 : ins 184 27 = some (.aload_n 0, 1) := by decide +kernel
theorem f_184_218 : fld 184 218 = some (7340134, 92, 2) := by decide +kernel
theorem i_184_28 : ins 184 28 = some (.getfield 218, 3) := by decide +kernel
theorem i_184_31 : ins 184 31 = some (.iload_n 3, 1) := by decide +kernel
theorem i_184_32 : ins 184 32 = some (.iaload, 1) := by decide +kernel
theorem i_184_33 : ins 184 33 = some (.aload_n 0, 1) := by decide +kernel
theorem f_184_34 : fld 184 34 = some (7340134, 14, 2) := by decide +kernel
theorem i_184_34 : ins 184 34 = some (.getfield 34, 3) := by decide +kernel
theorem i_184_37 : ins 184 37 = some (.iload_n 1, 1) := by decide +kernel
theorem i_184_38 : ins 184 38 = some (.iaload, 1) := by decide +kernel
theorem i_184_39 : ins 184 39 = some (.if_icmp .ne 40, 3) := by decide +kernel
theorem t_39_79 : tg 39 (40) = some 79 := by decide +kernel
theorem i_184_42 : ins 184 42 = some (.aload_n 0, 1) := by decide +kernel
theorem f_184_221 : fld 184 221 = some (7340134, 93, 2) := by decide +kernel
theorem i_184_43 : ins 184 43 = some (.getfield 221, 3) := by decide +kernel
theorem i_184_46 : ins 184 46 = some (.iload_n 3, 1) := by decide +kernel
theorem i_184_47 : ins 184 47 = some (.iaload, 1) := by decide +kernel
theorem i_184_48 : ins 184 48 = some (.aload_n 0, 1) := by decide +kernel
theorem f_184_37 : fld 184 37 = some (7340134, 15, 2) := by decide +kernel
theorem i_184_49 : ins 184 49 = some (.getfield 37, 3) := by decide +kernel
theorem i_184_52 : ins 184 52 = some (.iload_n 1, 1) := by decide +kernel
theorem i_184_53 : ins 184 53 = some (.iaload, 1) := by decide +kernel
theorem i_184_54 : ins 184 54 = some (.if_icmp .gt 25, 3) := by decide +kernel
theorem t_54_79 : tg 54 (25) = some 79 := by decide +kernel
theorem i_184_57 : ins 184 57 = some (.iload_n 2, 1) := by decide +kernel
theorem i_184_58 : ins 184 58 = some (.iconst (-1), 1) := by decide +kernel
theorem i_184_59 : ins 184 59 = some (.if_icmp .eq 18, 3) := by decide +kernel
theorem t_59_77 : tg 59 (18) = some 77 := by decide +kernel
theorem i_184_62 : ins 184 62 = some (.aload_n 0, 1) := by decide +kernel
theorem i_184_63 : ins 184 63 = some (.getfield 221, 3) := by decide +kernel
theorem i_184_66 : ins 184 66 = some (.iload_n 3, 1) := by decide +kernel
theorem i_184_67 : ins 184 67 = some (.iaload, 1) := by decide +kernel
theorem i_184_68 : ins 184 68 = some (.aload_n 0, 1) := by decide +kernel
theorem i_184_69 : ins 184 69 = some (.getfield 221, 3) := by decide +kernel
theorem i_184_72 : ins 184 72 = some (.iload_n 2, 1) := by decide +kernel
theorem i_184_73 : ins 184 73 = some (.iaload, 1) := by decide +kernel
theorem i_184_74 : ins 184 74 = some (.if_icmp .lt 5, 3) := by decide +kernel
theorem t_74_79 : tg 74 (5) = some 79 := by decide +kernel
theorem i_184_77 : ins 184 77 = some (.iload_n 3, 1) := by decide +kernel
theorem i_184_78 : ins 184 78 = some (.istore_n 2, 1) := by decide +kernel
theorem i_184_79 : ins 184 79 = some (.iinc 3 1, 3) := by decide +kernel
theorem i_184_82 : ins 184 82 = some (.goto (-78), 3) := by decide +kernel
theorem t_82_4 : tg 82 (-78) = some 4 := by decide +kernel
theorem i_184_85 : ins 184 85 = some (.iload_n 2, 1) := by decide +kernel
theorem i_184_86 : ins 184 86 = some (.iconst (-1), 1) := by decide +kernel
theorem i_184_87 : ins 184 87 = some (.if_icmp .eq 22, 3) := by decide +kernel
theorem t_87_109 : tg 87 (22) = some 109 := by decide +kernel
theorem i_184_90 : ins 184 90 = some (.aload_n 0, 1) := by decide +kernel
theorem f_184_115 : fld 184 115 = some (7340134, 53, 2) := by decide +kernel
theorem i_184_91 : ins 184 91 = some (.getfield 115, 3) := by decide +kernel
theorem i_184_94 : ins 184 94 = some (.iload_n 1, 1) := by decide +kernel
theorem i_184_95 : ins 184 95 = some (.iaload, 1) := by decide +kernel
theorem i_184_96 : ins 184 96 = some (.aload_n 0, 1) := by decide +kernel
theorem f_184_224 : fld 184 224 = some (7340134, 94, 2) := by decide +kernel
theorem i_184_97 : ins 184 97 = some (.getfield 224, 3) := by decide +kernel
theorem i_184_100 : ins 184 100 = some (.iload_n 2, 1) := by decide +kernel
theorem i_184_101 : ins 184 101 = some (.iaload, 1) := by decide +kernel
theorem i_184_102 : ins 184 102 = some (.if_icmp .ge 7, 3) := by decide +kernel
theorem t_102_109 : tg 102 (7) = some 109 := by decide +kernel
theorem i_184_105 : ins 184 105 = some (.iconst 1, 1) := by decide +kernel
theorem i_184_106 : ins 184 106 = some (.goto 4, 3) := by decide +kernel
theorem t_106_110 : tg 106 (4) = some 110 := by decide +kernel
theorem i_184_109 : ins 184 109 = some (.iconst 0, 1) := by decide +kernel
theorem r_184 : mret 184 = 2 := by decide +kernel
theorem i_184_110 : ins 184 110 = some (.ireturn, 1) := by decide +kernel
theorem i_185_0 : ins 185 0 = some (.aload_n 0, 1) := by decide +kernel
theorem i_185_1 : ins 185 1 = some (.iload_n 1, 1) := by decide +kernel
theorem v_185_277 : inv 185 277 = some (99, 1, 1, 7340134) := by decide +kernel
theorem i_185_2 : ins 185 2 = some (.invokevirtual 277, 3) := by decide +kernel
theorem i_185_5 : ins 185 5 = some (.ifCond .eq 27, 3) := by decide +kernel
theorem i_185_8 : ins 185 8 = some (.iload_n 2, 1) := by decide +kernel
theorem v_185_283 : inv 185 283 = some (102, 1, 0, 0) := by decide +kernel
theorem i_185_9 : ins 185 9 = some (.invokestatic 283, 3) := by decide +kernel
theorem i_185_12 : ins 185 12 = some (.ifCond .eq 20, 3) := by decide +kernel
theorem i_185_15 : ins 185 15 = some (.aload_n 0, 1) := by decide +kernel
theorem i_185_16 : ins 185 16 = some (.iload_n 1, 1) := by decide +kernel
theorem i_185_17 : ins 185 17 = some (.iload_n 2, 1) := by decide +kernel
theorem v_185_608 : inv 185 608 = some (186, 2, 1, 7340134) := by decide +kernel
theorem i_185_18 : ins 185 18 = some (.invokevirtual 608, 3) := by decide +kernel
theorem i_185_21 : ins 185 21 = some (.ifCond .eq 7, 3) := by decide +kernel
theorem t_21_28 : tg 21 (7) = some 28 := by decide +kernel
theorem i_185_24 : ins 185 24 = some (.iconst 1, 1) := by decide +kernel
theorem i_185_25 : ins 185 25 = some (.goto 8, 3) := by decide +kernel
theorem t_25_33 : tg 25 (8) = some 33 := by decide +kernel
theorem i_185_28 : ins 185 28 = some (.iconst 0, 1) := by decide +kernel
theorem i_185_29 : ins 185 29 = some (.goto 4, 3) := by decide +kernel
theorem i_185_32 : ins 185 32 = some (.iconst (-1), 1) := by decide +kernel
theorem r_185 : mret 185 = 1 := by decide +kernel
theorem i_185_33 : ins 185 33 = some (.ireturn, 1) := by decide +kernel
theorem i_186_0 : ins 186 0 = some (.aload_n 0, 1) := by decide +kernel
theorem i_186_1 : ins 186 1 = some (.iload_n 1, 1) := by decide +kernel
theorem i_186_2 : ins 186 2 = some (.iload_n 2, 1) := by decide +kernel
theorem v_186_605 : inv 186 605 = some (187, 2, 1, 7340134) := by decide +kernel
theorem i_186_3 : ins 186 3 = some (.invokevirtual 605, 3) := by decide +kernel
theorem i_186_6 : ins 186 6 = some (.aload_n 0, 1) := by decide +kernel
theorem i_186_7 : ins 186 7 = some (.aload_n 0, 1) := by decide +kernel
theorem i_186_8 : ins 186 8 = some (.iload_n 2, 1) := by decide +kernel
theorem v_186_484 : inv 186 484 = some (139, 1, 1, 7340134) := by decide +kernel
theorem i_186_9 : ins 186 9 = some (.invokevirtual 484, 3) := by decide +kernel
theorem i_186_12 : ins 186 12 = some (.iconst 2, 1) := by decide +kernel
theorem i_186_13 : ins 186 13 = some (.iconst 0, 1) := by decide +kernel
theorem v_186_517 : inv 186 517 = some (150, 3, 1, 7340134) := by decide +kernel
theorem i_186_14 : ins 186 14 = some (.invokevirtual 517, 3) := by decide +kernel
theorem r_186 : mret 186 = 2 := by decide +kernel
theorem i_186_17 : ins 186 17 = some (.ireturn, 1) := by decide +kernel
theorem i_187_0 : ins 187 0 = some (.aload_n 0, 1) := by decide +kernel
theorem v_187_502 : inv 187 502 = some (147, 0, 1, 7340134) := by decide +kernel
theorem i_187_1 : ins 187 1 = some (.invokevirtual 502, 3) := by decide +kernel
theorem i_187_4 : ins 187 4 = some (.aload_n 0, 1) := by decide +kernel
theorem f_187_109 : fld 187 109 = some (7340134, 48, 2) := by decide +kernel
theorem i_187_5 : ins 187 5 = some (.getfield 109, 3) := by decide +kernel
theorem i_187_8 : ins 187 8 = some (.bipush 8, 2) := by decide +kernel
theorem i_187_10 : ins 187 10 = some (.aload_n 0, 1) := by decide +kernel
theorem f_187_9 : fld 187 9 = some (7340134, 4, 2) := by decide +kernel
theorem i_187_11 : ins 187 11 = some (.getfield 9, 3) := by decide +kernel
theorem i_187_14 : ins 187 14 = some (.iload_n 1, 1) := by decide +kernel
theorem i_187_15 : ins 187 15 = some (.iaload, 1) := by decide +kernel
theorem i_187_16 : ins 187 16 = some (.i2l, 1) := by decide +kernel
theorem i_187_17 : ins 187 17 = some (.lastore, 1) := by decide +kernel
theorem i_187_18 : ins 187 18 = some (.aload_n 0, 1) := by decide +kernel
theorem i_187_19 : ins 187 19 = some (.getfield 109, 3) := by decide +kernel
theorem i_187_22 : ins 187 22 = some (.bipush 9, 2) := by decide +kernel
theorem i_187_24 : ins 187 24 = some (.aload_n 0, 1) := by decide +kernel
theorem i_187_25 : ins 187 25 = some (.iload_n 1, 1) := by decide +kernel
theorem i_187_26 : ins 187 26 = some (.iload_n 2, 1) := by decide +kernel
theorem v_187_577 : inv 187 577 = some (169, 2, 1, 7340134) := by decide +kernel
theorem i_187_27 : ins 187 27 = some (.invokevirtual 577, 3) := by decide +kernel
theorem i_187_30 : ins 187 30 = some (.i2l, 1) := by decide +kernel
theorem i_187_31 : ins 187 31 = some (.lastore, 1) := by decide +kernel
theorem i_187_32 : ins 187 32 = some (.iconst 0, 1) := by decide +kernel
theorem i_187_33 : ins 187 33 = some (.istore_n 3, 1) := by decide +kernel
theorem i_187_34 : ins 187 34 = some (.iload_n 3, 1) := by decide +kernel
theorem i_187_35 : ins 187 35 = some (.aload_n 0, 1) := by decide +kernel
theorem f_187_290 : fld 187 290 = some (7340134, 11, 0) := by decide +kernel
theorem i_187_36 : ins 187 36 = some (.getfield 290, 3) := by decide +kernel
theorem i_187_39 : ins 187 39 = some (.if_icmp .ge 55, 3) := by decide +kernel
theorem t_39_94 : tg 39 (55) = some 94 := by decide +kernel
theorem i_187_42 : ins 187 42 = some (.aload_n 0, 1) := by decide +kernel
theorem i_187_43 : ins 187 43 = some (.getfield 109, 3) := by decide +kernel
theorem i_187_46 : ins 187 46 = some (.bipush 10, 2) := by decide +kernel
theorem i_187_48 : ins 187 48 = some (.dup2, 1) := by decide +kernel
theorem i_187_49 : ins 187 49 = some (.laload, 1) := by decide +kernel
theorem i_187_50 : ins 187 50 = some (.aload_n 0, 1) := by decide +kernel
theorem f_187_31 : fld 187 31 = some (7340134, 13, 2) := by decide +kernel
theorem i_187_51 : ins 187 51 = some (.getfield 31, 3) := by decide +kernel
theorem i_187_54 : ins 187 54 = some (.iload_n 3, 1) := by decide +kernel
theorem i_187_55 : ins 187 55 = some (.iaload, 1) := by decide +kernel
theorem i_187_56 : ins 187 56 = some (.iload_n 1, 1) := by decide +kernel
theorem i_187_57 : ins 187 57 = some (.if_icmp .ne 25, 3) := by decide +kernel
theorem t_57_82 : tg 57 (25) = some 82 := by decide +kernel
theorem i_187_60 : ins 187 60 = some (.aload_n 0, 1) := by decide +kernel
theorem f_187_52 : fld 187 52 = some (7340134, 20, 2) := by decide +kernel
theorem i_187_61 : ins 187 61 = some (.getfield 52, 3) := by decide +kernel
theorem i_187_64 : ins 187 64 = some (.iload_n 3, 1) := by decide +kernel
theorem i_187_65 : ins 187 65 = some (.baload, 1) := by decide +kernel
theorem i_187_66 : ins 187 66 = some (.ifCond .eq 16, 3) := by decide +kernel
theorem t_66_82 : tg 66 (16) = some 82 := by decide +kernel
theorem i_187_69 : ins 187 69 = some (.aload_n 0, 1) := by decide +kernel
theorem i_187_70 : ins 187 70 = some (.iload_n 3, 1) := by decide +kernel
theorem i_187_71 : ins 187 71 = some (.iload_n 2, 1) := by decide +kernel
theorem v_187_523 : inv 187 523 = some (143, 2, 1, 7340134) := by decide +kernel
theorem i_187_72 : ins 187 72 = some (.invokevirtual 523, 3) := by decide +kernel
theorem i_187_75 : ins 187 75 = some (.ifCond .eq 7, 3) := by decide +kernel
theorem t_75_82 : tg 75 (7) = some 82 := by decide +kernel
theorem i_187_78 : ins 187 78 = some (.iconst 1, 1) := by decide +kernel
theorem i_187_79 : ins 187 79 = some (.goto 4, 3) := by decide +kernel
theorem t_79_83 : tg 79 (4) = some 83 := by decide +kernel
theorem i_187_82 : ins 187 82 = some (.iconst 0, 1) := by decide +kernel
theorem v_187_494 : inv 187 494 = some (149, 1, 0, 0) := by decide +kernel
theorem i_187_83 : ins 187 83 = some (.invokestatic 494, 3) := by decide +kernel
theorem i_187_86 : ins 187 86 = some (.ladd, 1) := by decide +kernel
theorem i_187_87 : ins 187 87 = some (.lastore, 1) := by decide +kernel
theorem i_187_88 : ins 187 88 = some (.iinc 3 1, 3) := by decide +kernel
theorem i_187_91 : ins 187 91 = some (.goto (-57), 3) := by decide +kernel
theorem t_91_34 : tg 91 (-57) = some 34 := by decide +kernel
theorem i_187_94 : ins 187 94 = some (.return_, 1) := by decide +kernel
theorem r_187 : mret 187 = 0 := by decide +kernel
theorem i_188_0 : ins 188 0 = some (.aload_n 0, 1) := by decide +kernel
theorem i_188_1 : ins 188 1 = some (.iload_n 1, 1) := by decide +kernel
theorem i_188_2 : ins 188 2 = some (.iload_n 2, 1) := by decide +kernel
theorem i_188_3 : ins 188 3 = some (.iload_n 3, 1) := by decide +kernel
theorem v_188_549 : inv 188 549 = some (157, 3, 1, 7340134) := by decide +kernel
theorem i_188_4 : ins 188 4 = some (.invokevirtual 549, 3) := by decide +kernel
theorem i_188_7 : ins 188 7 = some (.ifCond .eq 32, 3) := by decide +kernel
theorem t_7_39 : tg 7 (32) = some 39 := by decide +kernel
theorem i_188_10 : ins 188 10 = some (.iload 4, 2) := by decide +kernel
theorem i_188_12 : ins 188 12 = some (.iconst 0, 1) := by decide +kernel
theorem i_188_13 : ins 188 13 = some (.iconst 1, 1) := by decide +kernel
theorem v_188_260 : inv 188 260 = some (94, 3, 0, 0) := by decide +kernel
theorem i_188_14 : ins 188 14 = some (.invokestatic 260, 3) := by decide +kernel
theorem i_188_17 : ins 188 17 = some (.ifCond .eq 22, 3) := by decide +kernel
theorem t_17_39 : tg 17 (22) = some 39 := by decide +kernel
theorem i_188_20 : ins 188 20 = some (.aload_n 0, 1) := by decide +kernel
theorem f_188_264 : fld 188 264 = some (7340134, 1, 0) := by decide +kernel
theorem i_188_21 : ins 188 21 = some (.getfield 264, 3) := by decide +kernel
theorem i_188_24 : ins 188 24 = some (.sipush 3999, 3) := by decide +kernel
theorem i_188_27 : ins 188 27 = some (.if_icmp .eq 12, 3) := by decide +kernel
theorem i_188_30 : ins 188 30 = some (.aload_n 0, 1) := by decide +kernel
theorem f_188_611 : fld 188 611 = some (7340134, 95, 0) := by decide +kernel
theorem i_188_31 : ins 188 31 = some (.getfield 611, 3) := by decide +kernel
theorem i_188_34 : ins 188 34 = some (.bipush 100, 2) := by decide +kernel
theorem i_188_36 : ins 188 36 = some (.if_icmp .ne 5, 3) := by decide +kernel
theorem i_188_39 : ins 188 39 = some (.iconst (-1), 1) := by decide +kernel
theorem r_188 : mret 188 = 1 := by decide +kernel
theorem i_188_40 : ins 188 40 = some (.ireturn, 1) := by decide +kernel
theorem i_188_41 : ins 188 41 = some (.aload_n 0, 1) := by decide +kernel
theorem i_188_42 : ins 188 42 = some (.iload_n 1, 1) := by decide +kernel
theorem i_188_43 : ins 188 43 = some (.aload_n 0, 1) := by decide +kernel
theorem i_188_44 : ins 188 44 = some (.getfield 264, 3) := by decide +kernel
theorem v_188_530 : inv 188 530 = some (144, 2, 1, 7340134) := by decide +kernel
theorem i_188_47 : ins 188 47 = some (.invokevirtual 530, 3) := by decide +kernel
theorem i_188_50 : ins 188 50 = some (.aload_n 0, 1) := by decide +kernel
theorem i_188_51 : ins 188 51 = some (.iload_n 2, 1) := by decide +kernel
theorem i_188_52 : ins 188 52 = some (.iload_n 3, 1) := by decide +kernel
theorem i_188_53 : ins 188 53 = some (.iload 4, 2) := by decide +kernel
theorem v_188_554 : inv 188 554 = some (158, 3, 1, 7340134) := by decide +kernel
theorem i_188_55 : ins 188 55 = some (.invokevirtual 554, 3) := by decide +kernel
theorem i_188_58 : ins 188 58 = some (.aload_n 0, 1) := by decide +kernel
theorem f_188_544 : fld 188 544 = some (7340134, 63, 1) := by decide +kernel
theorem i_188_59 : ins 188 59 = some (.getfield 544, 3) := by decide +kernel
theorem i_188_62 : ins 188 62 = some (.lconst 0, 1) := by decide +kernel
theorem t_64_71 : tg 64 (7) = some 71 := by decide +kernel
theorem i_188_63 : ins 188 63 = some (.lcmp, 1) := by decide +kernel
theorem i_188_64 : ins 188 64 = some (.ifCond .ne 7, 3) := by decide +kernel
theorem i_188_67 : ins 188 67 = some (.lconst 0, 1) := by decide +kernel
theorem i_188_68 : ins 188 68 = some (.goto 18, 3) := by decide +kernel
theorem t_68_86 : tg 68 (18) = some 86 := by decide +kernel
theorem l_188_535 : ldcv 188 535 = some (vL (1000)) := rfl
theorem i_188_71 : ins 188 71 = some (.ldc2_w 535, 3) := by decide +kernel
theorem i_188_74 : ins 188 74 = some (.aload_n 0, 1) := by decide +kernel
theorem f_188_540 : fld 188 540 = some (7340134, 62, 1) := by decide +kernel
theorem i_188_75 : ins 188 75 = some (.getfield 540, 3) := by decide +kernel
theorem i_188_78 : ins 188 78 = some (.lmul, 1) := by decide +kernel
theorem i_188_79 : ins 188 79 = some (.aload_n 0, 1) := by decide +kernel
theorem i_188_80 : ins 188 80 = some (.getfield 544, 3) := by decide +kernel
theorem v_188_614 : inv 188 614 = some (189, 2, 0, 0) := by decide +kernel
theorem i_188_83 : ins 188 83 = some (.invokestatic 614, 3) := by decide +kernel
theorem i_188_86 : ins 188 86 = some (.lstore 5, 2) := by decide +kernel
theorem i_188_88 : ins 188 88 = some (.lload 5, 2) := by decide +kernel
theorem l_188_618 : ldcv 188 618 = some (vL (-1000000000)) := rfl
theorem i_188_90 : ins 188 90 = some (.ldc2_w 618, 3) := by decide +kernel
theorem t_94_103 : tg 94 (9) = some 103 := by decide +kernel
theorem i_188_93 : ins 188 93 = some (.lcmp, 1) := by decide +kernel
theorem i_188_94 : ins 188 94 = some (.ifCond .ge 9, 3) := by decide +kernel
theorem i_188_97 : ins 188 97 = some (.ldc2_w 618, 3) := by decide +kernel
theorem i_188_100 : ins 188 100 = some (.goto 20, 3) := by decide +kernel
theorem t_100_120 : tg 100 (20) = some 120 := by decide +kernel
theorem i_188_103 : ins 188 103 = some (.lload 5, 2) := by decide +kernel
theorem l_188_563 : ldcv 188 563 = some (vL (1000000000)) := rfl
theorem i_188_105 : ins 188 105 = some (.ldc2_w 563, 3) := by decide +kernel
theorem t_109_118 : tg 109 (9) = some 118 := by decide +kernel
theorem i_188_108 : ins 188 108 = some (.lcmp, 1) := by decide +kernel
theorem i_188_109 : ins 188 109 = some (.ifCond .le 9, 3) := by decide +kernel
theorem i_188_112 : ins 188 112 = some (.ldc2_w 563, 3) := by decide +kernel
theorem i_188_115 : ins 188 115 = some (.goto 5, 3) := by decide +kernel
theorem i_188_118 : ins 188 118 = some (.lload 5, 2) := by decide +kernel
theorem i_188_120 : ins 188 120 = some (.lstore 5, 2) := by decide +kernel
theorem i_188_122 : ins 188 122 = some (.aload_n 0, 1) := by decide +kernel
theorem i_188_123 : ins 188 123 = some (.iload_n 1, 1) := by decide +kernel
theorem i_188_124 : ins 188 124 = some (.aload_n 0, 1) := by decide +kernel
theorem i_188_125 : ins 188 125 = some (.getfield 264, 3) := by decide +kernel
theorem v_188_608 : inv 188 608 = some (186, 2, 1, 7340134) := by decide +kernel
theorem i_188_128 : ins 188 128 = some (.invokevirtual 608, 3) := by decide +kernel
theorem i_188_131 : ins 188 131 = some (.istore 7, 2) := by decide +kernel
theorem i_188_133 : ins 188 133 = some (.iconst 0, 1) := by decide +kernel
theorem i_188_134 : ins 188 134 = some (.istore 8, 2) := by decide +kernel
theorem i_188_136 : ins 188 136 = some (.iload 8, 2) := by decide +kernel
theorem i_188_138 : ins 188 138 = some (.aload_n 0, 1) := by decide +kernel
theorem i_188_139 : ins 188 139 = some (.getfield 611, 3) := by decide +kernel
theorem i_188_142 : ins 188 142 = some (.if_icmp .ge 43, 3) := by decide +kernel
theorem t_142_185 : tg 142 (43) = some 185 := by decide +kernel
theorem i_188_145 : ins 188 145 = some (.iload 7, 2) := by decide +kernel
theorem i_188_147 : ins 188 147 = some (.ifCond .eq 38, 3) := by decide +kernel
theorem t_147_185 : tg 147 (38) = some 185 := by decide +kernel
theorem i_188_150 : ins 188 150 = some (.aload_n 0, 1) := by decide +kernel
theorem f_188_233 : fld 188 233 = some (7340134, 99, 2) := by decide +kernel
theorem i_188_151 : ins 188 151 = some (.getfield 233, 3) := by decide +kernel
theorem i_188_154 : ins 188 154 = some (.iload 8, 2) := by decide +kernel
theorem kl_146802241 : klen 146802241 = 100 := by decide +kernel
theorem i_188_156 : ins 188 156 = some (.iaload, 1) := by decide +kernel
theorem i_188_157 : ins 188 157 = some (.i2l, 1) := by decide +kernel
theorem i_188_158 : ins 188 158 = some (.lload 5, 2) := by decide +kernel
theorem i_188_160 : ins 188 160 = some (.lcmp, 1) := by decide +kernel
theorem i_188_161 : ins 188 161 = some (.ifCond .le 14, 3) := by decide +kernel
theorem i_188_164 : ins 188 164 = some (.aload_n 0, 1) := by decide +kernel
theorem i_188_165 : ins 188 165 = some (.getfield 233, 3) := by decide +kernel
theorem i_188_168 : ins 188 168 = some (.iload 8, 2) := by decide +kernel
theorem i_188_170 : ins 188 170 = some (.iaload, 1) := by decide +kernel
theorem i_188_171 : ins 188 171 = some (.i2l, 1) := by decide +kernel
theorem i_188_172 : ins 188 172 = some (.goto 5, 3) := by decide +kernel
theorem t_172_177 : tg 172 (5) = some 177 := by decide +kernel
theorem i_188_175 : ins 188 175 = some (.lload 5, 2) := by decide +kernel
theorem i_188_177 : ins 188 177 = some (.lstore 5, 2) := by decide +kernel
theorem i_188_179 : ins 188 179 = some (.iinc 8 1, 3) := by decide +kernel
theorem i_188_182 : ins 188 182 = some (.goto (-46), 3) := by decide +kernel
theorem t_182_136 : tg 182 (-46) = some 136 := by decide +kernel
theorem i_188_185 : ins 188 185 = some (.lconst 0, 1) := by decide +kernel
theorem i_188_186 : ins 188 186 = some (.lstore 8, 2) := by decide +kernel
theorem i_188_188 : ins 188 188 = some (.lload 5, 2) := by decide +kernel
theorem i_188_190 : ins 188 190 = some (.aload_n 0, 1) := by decide +kernel
theorem i_188_191 : ins 188 191 = some (.aload_n 0, 1) := by decide +kernel
theorem f_188_514 : fld 188 514 = some (7340134, 51, 0) := by decide +kernel
theorem i_188_192 : ins 188 192 = some (.getfield 514, 3) := by decide +kernel
theorem i_188_195 : ins 188 195 = some (.bipush 7, 2) := by decide +kernel
theorem v_188_487 : inv 188 487 = some (140, 2, 1, 7340134) := by decide +kernel
theorem i_188_197 : ins 188 197 = some (.invokevirtual 487, 3) := by decide +kernel
theorem i_188_200 : ins 188 200 = some (.i2l, 1) := by decide +kernel
theorem t_202_265 : tg 202 (63) = some 265 := by decide +kernel
theorem i_188_201 : ins 188 201 = some (.lcmp, 1) := by decide +kernel
theorem i_188_202 : ins 188 202 = some (.ifCond .lt 63, 3) := by decide +kernel
theorem i_188_205 : ins 188 205 = some (.aload_n 0, 1) := by decide +kernel
theorem i_188_206 : ins 188 206 = some (.aload_n 0, 1) := by decide +kernel
theorem i_188_207 : ins 188 207 = some (.getfield 514, 3) := by decide +kernel
theorem i_188_210 : ins 188 210 = some (.iconst 3, 1) := by decide +kernel
theorem v_188_480 : inv 188 480 = some (141, 2, 1, 7340134) := by decide +kernel
theorem i_188_211 : ins 188 211 = some (.invokevirtual 480, 3) := by decide +kernel
theorem i_188_214 : ins 188 214 = some (.istore 10, 2) := by decide +kernel
theorem i_188_216 : ins 188 216 = some (.aload_n 0, 1) := by decide +kernel
theorem i_188_217 : ins 188 217 = some (.iload_n 1, 1) := by decide +kernel
theorem i_188_218 : ins 188 218 = some (.aload_n 0, 1) := by decide +kernel
theorem i_188_219 : ins 188 219 = some (.getfield 264, 3) := by decide +kernel
theorem v_188_605 : inv 188 605 = some (187, 2, 1, 7340134) := by decide +kernel
theorem i_188_222 : ins 188 222 = some (.invokevirtual 605, 3) := by decide +kernel
theorem i_188_225 : ins 188 225 = some (.aload_n 0, 1) := by decide +kernel
theorem f_188_109 : fld 188 109 = some (7340134, 48, 2) := by decide +kernel
theorem i_188_226 : ins 188 226 = some (.getfield 109, 3) := by decide +kernel
theorem i_188_229 : ins 188 229 = some (.bipush 11, 2) := by decide +kernel
theorem i_188_231 : ins 188 231 = some (.lload 5, 2) := by decide +kernel
theorem i_188_233 : ins 188 233 = some (.lastore, 1) := by decide +kernel
theorem i_188_234 : ins 188 234 = some (.aload_n 0, 1) := by decide +kernel
theorem i_188_235 : ins 188 235 = some (.getfield 109, 3) := by decide +kernel
theorem i_188_238 : ins 188 238 = some (.bipush 12, 2) := by decide +kernel
theorem i_188_240 : ins 188 240 = some (.iload 7, 2) := by decide +kernel
theorem v_188_494 : inv 188 494 = some (149, 1, 0, 0) := by decide +kernel
theorem i_188_242 : ins 188 242 = some (.invokestatic 494, 3) := by decide +kernel
theorem i_188_245 : ins 188 245 = some (.lastore, 1) := by decide +kernel
theorem i_188_246 : ins 188 246 = some (.iload 10, 2) := by decide +kernel
theorem i_188_248 : ins 188 248 = some (.iconst (-1), 1) := by decide +kernel
theorem i_188_249 : ins 188 249 = some (.if_icmp .ne 8, 3) := by decide +kernel
theorem t_249_257 : tg 249 (8) = some 257 := by decide +kernel
theorem i_188_252 : ins 188 252 = some (.lload 5, 2) := by decide +kernel
theorem i_188_254 : ins 188 254 = some (.goto 9, 3) := by decide +kernel
theorem t_254_263 : tg 254 (9) = some 263 := by decide +kernel
theorem i_188_257 : ins 188 257 = some (.aload_n 0, 1) := by decide +kernel
theorem i_188_258 : ins 188 258 = some (.iload 10, 2) := by decide +kernel
theorem v_188_498 : inv 188 498 = some (151, 1, 1, 7340134) := by decide +kernel
theorem i_188_260 : ins 188 260 = some (.invokevirtual 498, 3) := by decide +kernel
theorem i_188_263 : ins 188 263 = some (.lstore 8, 2) := by decide +kernel
theorem i_188_265 : ins 188 265 = some (.aload_n 0, 1) := by decide +kernel
theorem f_188_227 : fld 188 227 = some (7340134, 97, 2) := by decide +kernel
theorem i_188_266 : ins 188 266 = some (.getfield 227, 3) := by decide +kernel
theorem i_188_269 : ins 188 269 = some (.aload_n 0, 1) := by decide +kernel
theorem i_188_270 : ins 188 270 = some (.getfield 611, 3) := by decide +kernel
theorem i_188_273 : ins 188 273 = some (.iload_n 1, 1) := by decide +kernel
theorem kl_144705089 : klen 144705089 = 100 := by decide +kernel
theorem i_188_274 : ins 188 274 = some (.iastore, 1) := by decide +kernel
theorem i_188_275 : ins 188 275 = some (.aload_n 0, 1) := by decide +kernel
theorem f_188_230 : fld 188 230 = some (7340134, 98, 2) := by decide +kernel
theorem i_188_276 : ins 188 276 = some (.getfield 230, 3) := by decide +kernel
theorem i_188_279 : ins 188 279 = some (.aload_n 0, 1) := by decide +kernel
theorem i_188_280 : ins 188 280 = some (.getfield 611, 3) := by decide +kernel
theorem i_188_283 : ins 188 283 = some (.aload_n 0, 1) := by decide +kernel
theorem i_188_284 : ins 188 284 = some (.getfield 264, 3) := by decide +kernel
theorem kl_145753665 : klen 145753665 = 100 := by decide +kernel
theorem i_188_287 : ins 188 287 = some (.iastore, 1) := by decide +kernel
theorem i_188_288 : ins 188 288 = some (.aload_n 0, 1) := by decide +kernel
theorem i_188_289 : ins 188 289 = some (.getfield 233, 3) := by decide +kernel
theorem i_188_292 : ins 188 292 = some (.aload_n 0, 1) := by decide +kernel
theorem i_188_293 : ins 188 293 = some (.getfield 611, 3) := by decide +kernel
theorem i_188_296 : ins 188 296 = some (.lload 8, 2) := by decide +kernel
theorem i_188_298 : ins 188 298 = some (.lconst 0, 1) := by decide +kernel
theorem t_300_307 : tg 300 (7) = some 307 := by decide +kernel
theorem i_188_299 : ins 188 299 = some (.lcmp, 1) := by decide +kernel
theorem i_188_300 : ins 188 300 = some (.ifCond .ge 7, 3) := by decide +kernel
theorem i_188_303 : ins 188 303 = some (.iconst 0, 1) := by decide +kernel
theorem i_188_304 : ins 188 304 = some (.goto 21, 3) := by decide +kernel
theorem t_304_325 : tg 304 (21) = some 325 := by decide +kernel
theorem i_188_307 : ins 188 307 = some (.lload 8, 2) := by decide +kernel
theorem l_188_620 : ldcv 188 620 = some (vL (9999)) := rfl
theorem i_188_309 : ins 188 309 = some (.ldc2_w 620, 3) := by decide +kernel
theorem t_313_322 : tg 313 (9) = some 322 := by decide +kernel
theorem i_188_312 : ins 188 312 = some (.lcmp, 1) := by decide +kernel
theorem i_188_313 : ins 188 313 = some (.ifCond .le 9, 3) := by decide +kernel
theorem i_188_316 : ins 188 316 = some (.sipush 9999, 3) := by decide +kernel
theorem i_188_319 : ins 188 319 = some (.goto 6, 3) := by decide +kernel
theorem t_319_325 : tg 319 (6) = some 325 := by decide +kernel
theorem i_188_322 : ins 188 322 = some (.lload 8, 2) := by decide +kernel
theorem i_188_324 : ins 188 324 = some (.l2i, 1) := by decide +kernel
theorem i_188_325 : ins 188 325 = some (.iastore, 1) := by decide +kernel
theorem i_188_326 : ins 188 326 = some (.aload_n 0, 1) := by decide +kernel
theorem f_188_248 : fld 188 248 = some (7340134, 104, 2) := by decide +kernel
theorem i_188_327 : ins 188 327 = some (.getfield 248, 3) := by decide +kernel
theorem i_188_330 : ins 188 330 = some (.aload_n 0, 1) := by decide +kernel
theorem i_188_331 : ins 188 331 = some (.getfield 611, 3) := by decide +kernel
theorem i_188_334 : ins 188 334 = some (.aload_n 0, 1) := by decide +kernel
theorem i_188_335 : ins 188 335 = some (.getfield 544, 3) := by decide +kernel
theorem kl_152045124 : klen 152045124 = 100 := by decide +kernel
theorem i_188_338 : ins 188 338 = some (.lastore, 1) := by decide +kernel
theorem i_188_339 : ins 188 339 = some (.aload_n 0, 1) := by decide +kernel
theorem f_188_251 : fld 188 251 = some (7340134, 105, 2) := by decide +kernel
theorem i_188_340 : ins 188 340 = some (.getfield 251, 3) := by decide +kernel
theorem i_188_343 : ins 188 343 = some (.aload_n 0, 1) := by decide +kernel
theorem i_188_344 : ins 188 344 = some (.getfield 611, 3) := by decide +kernel
theorem i_188_347 : ins 188 347 = some (.iload 7, 2) := by decide +kernel
theorem kl_153093699 : klen 153093699 = 100 := by decide +kernel
theorem i_188_349 : ins 188 349 = some (.bastore, 1) := by decide +kernel
theorem i_188_350 : ins 188 350 = some (.aload_n 0, 1) := by decide +kernel
theorem i_188_351 : ins 188 351 = some (.dup, 1) := by decide +kernel
theorem i_188_352 : ins 188 352 = some (.getfield 611, 3) := by decide +kernel
theorem i_188_355 : ins 188 355 = some (.iconst 1, 1) := by decide +kernel
theorem i_188_356 : ins 188 356 = some (.iadd, 1) := by decide +kernel
theorem o_188_7340134_95 : putok 188 7340134 95 = true := by decide +kernel
theorem i_188_357 : ins 188 357 = some (.putfield 611, 3) := by decide +kernel
theorem i_188_360 : ins 188 360 = some (.aload_n 0, 1) := by decide +kernel
theorem i_188_361 : ins 188 361 = some (.getfield 233, 3) := by decide +kernel
theorem i_188_364 : ins 188 364 = some (.aload_n 0, 1) := by decide +kernel
theorem i_188_365 : ins 188 365 = some (.getfield 611, 3) := by decide +kernel
theorem i_188_368 : ins 188 368 = some (.iconst 1, 1) := by decide +kernel
theorem i_188_369 : ins 188 369 = some (.isub, 1) := by decide +kernel
theorem i_188_370 : ins 188 370 = some (.iaload, 1) := by decide +kernel
theorem i_188_371 : ins 188 371 = some (.ireturn, 1) := by decide +kernel
theorem i_189_0 : ins 189 0 = some (.lload_n 0, 1) := by decide +kernel
theorem i_189_1 : ins 189 1 = some (.lload_n 2, 1) := by decide +kernel
theorem i_189_2 : ins 189 2 = some (.ldiv, 1) := by decide +kernel
theorem i_189_3 : ins 189 3 = some (.lstore 4, 2) := by decide +kernel
theorem i_189_5 : ins 189 5 = some (.lload_n 0, 1) := by decide +kernel
theorem i_189_6 : ins 189 6 = some (.lload_n 2, 1) := by decide +kernel
theorem i_189_7 : ins 189 7 = some (.lrem, 1) := by decide +kernel
theorem i_189_8 : ins 189 8 = some (.lconst 0, 1) := by decide +kernel
theorem t_10_20 : tg 10 (10) = some 20 := by decide +kernel
theorem i_189_9 : ins 189 9 = some (.lcmp, 1) := by decide +kernel
theorem i_189_10 : ins 189 10 = some (.ifCond .ge 10, 3) := by decide +kernel
theorem i_189_13 : ins 189 13 = some (.lload 4, 2) := by decide +kernel
theorem i_189_15 : ins 189 15 = some (.lconst 1, 1) := by decide +kernel
theorem i_189_16 : ins 189 16 = some (.lsub, 1) := by decide +kernel
theorem i_189_17 : ins 189 17 = some (.goto 5, 3) := by decide +kernel
theorem i_189_20 : ins 189 20 = some (.lload 4, 2) := by decide +kernel
theorem i_189_22 : ins 189 22 = some (.lreturn, 1) := by decide +kernel
theorem r_189 : mret 189 = 5 := by decide +kernel
theorem i_190_0 : ins 190 0 = some (.aload_n 0, 1) := by decide +kernel
theorem i_190_1 : ins 190 1 = some (.iload_n 1, 1) := by decide +kernel
theorem v_190_277 : inv 190 277 = some (99, 1, 1, 7340134) := by decide +kernel
theorem i_190_2 : ins 190 2 = some (.invokevirtual 277, 3) := by decide +kernel
theorem i_190_5 : ins 190 5 = some (.ifCond .eq 27, 3) := by decide +kernel
theorem i_190_8 : ins 190 8 = some (.iload_n 2, 1) := by decide +kernel
theorem v_190_283 : inv 190 283 = some (102, 1, 0, 0) := by decide +kernel
theorem i_190_9 : ins 190 9 = some (.invokestatic 283, 3) := by decide +kernel
theorem i_190_12 : ins 190 12 = some (.ifCond .eq 20, 3) := by decide +kernel
theorem i_190_15 : ins 190 15 = some (.iload_n 3, 1) := by decide +kernel
theorem i_190_16 : ins 190 16 = some (.invokestatic 283, 3) := by decide +kernel
theorem i_190_19 : ins 190 19 = some (.ifCond .eq 13, 3) := by decide +kernel
theorem i_190_22 : ins 190 22 = some (.aload_n 0, 1) := by decide +kernel
theorem i_190_23 : ins 190 23 = some (.iload_n 1, 1) := by decide +kernel
theorem i_190_24 : ins 190 24 = some (.iload_n 2, 1) := by decide +kernel
theorem i_190_25 : ins 190 25 = some (.iload_n 3, 1) := by decide +kernel
theorem v_190_626 : inv 190 626 = some (191, 3, 1, 7340134) := by decide +kernel
theorem i_190_26 : ins 190 26 = some (.invokevirtual 626, 3) := by decide +kernel
theorem i_190_29 : ins 190 29 = some (.goto 4, 3) := by decide +kernel
theorem i_190_32 : ins 190 32 = some (.iconst (-1), 1) := by decide +kernel
theorem r_190 : mret 190 = 1 := by decide +kernel
theorem i_190_33 : ins 190 33 = some (.ireturn, 1) := by decide +kernel
theorem i_191_0 : ins 191 0 = some (.aload_n 0, 1) := by decide +kernel
theorem i_191_1 : ins 191 1 = some (.iload_n 1, 1) := by decide +kernel
theorem i_191_2 : ins 191 2 = some (.iload_n 2, 1) := by decide +kernel
theorem i_191_3 : ins 191 3 = some (.iload_n 3, 1) := by decide +kernel
theorem v_191_622 : inv 191 622 = some (192, 3, 1, 7340134) := by decide +kernel
theorem i_191_4 : ins 191 4 = some (.invokevirtual 622, 3) := by decide +kernel
theorem i_191_7 : ins 191 7 = some (.istore 4, 2) := by decide +kernel
theorem i_191_9 : ins 191 9 = some (.iload 4, 2) := by decide +kernel
theorem i_191_11 : ins 191 11 = some (.iconst (-1), 1) := by decide +kernel
theorem i_191_12 : ins 191 12 = some (.if_icmp .eq 11, 3) := by decide +kernel
theorem t_12_23 : tg 12 (11) = some 23 := by decide +kernel
theorem i_191_15 : ins 191 15 = some (.aload_n 0, 1) := by decide +kernel
theorem f_191_233 : fld 191 233 = some (7340134, 99, 2) := by decide +kernel
theorem i_191_16 : ins 191 16 = some (.getfield 233, 3) := by decide +kernel
theorem i_191_19 : ins 191 19 = some (.iload 4, 2) := by decide +kernel
theorem i_191_21 : ins 191 21 = some (.iaload, 1) := by decide +kernel
theorem r_191 : mret 191 = 1 := by decide +kernel
theorem i_191_22 : ins 191 22 = some (.ireturn, 1) := by decide +kernel
theorem i_191_23 : ins 191 23 = some (.lconst 0, 1) := by decide +kernel
theorem i_191_24 : ins 191 24 = some (.lstore 5, 2) := by decide +kernel
theorem i_191_26 : ins 191 26 = some (.lconst 0, 1) := by decide +kernel
theorem i_191_27 : ins 191 27 = some (.lstore 7, 2) := by decide +kernel
theorem i_191_29 : ins 191 29 = some (.iconst 0, 1) := by decide +kernel
theorem i_191_30 : ins 191 30 = some (.istore 9, 2) := by decide +kernel
theorem i_191_32 : ins 191 32 = some (.iload 9, 2) := by decide +kernel
theorem i_191_34 : ins 191 34 = some (.aload_n 0, 1) := by decide +kernel
theorem f_191_267 : fld 191 267 = some (7340134, 2, 0) := by decide +kernel
theorem i_191_35 : ins 191 35 = some (.getfield 267, 3) := by decide +kernel
theorem i_191_38 : ins 191 38 = some (.if_icmp .ge 68, 3) := by decide +kernel
theorem t_38_106 : tg 38 (68) = some 106 := by decide +kernel
theorem i_191_41 : ins 191 41 = some (.aload_n 0, 1) := by decide +kernel
theorem i_191_42 : ins 191 42 = some (.iload 9, 2) := by decide +kernel
theorem i_191_44 : ins 191 44 = some (.iload_n 2, 1) := by decide +kernel
theorem i_191_45 : ins 191 45 = some (.iload_n 3, 1) := by decide +kernel
theorem i_191_46 : ins 191 46 = some (.invokevirtual 622, 3) := by decide +kernel
theorem i_191_49 : ins 191 49 = some (.istore 10, 2) := by decide +kernel
theorem i_191_51 : ins 191 51 = some (.iload 10, 2) := by decide +kernel
theorem i_191_53 : ins 191 53 = some (.iconst (-1), 1) := by decide +kernel
theorem i_191_54 : ins 191 54 = some (.if_icmp .eq 46, 3) := by decide +kernel
theorem t_54_100 : tg 54 (46) = some 100 := by decide +kernel
theorem i_191_57 : ins 191 57 = some (.aload_n 0, 1) := by decide +kernel
theorem f_191_251 : fld 191 251 = some (7340134, 105, 2) := by decide +kernel
theorem i_191_58 : ins 191 58 = some (.getfield 251, 3) := by decide +kernel
theorem i_191_61 : ins 191 61 = some (.iload 10, 2) := by decide +kernel
theorem i_191_63 : ins 191 63 = some (.baload, 1) := by decide +kernel
theorem i_191_64 : ins 191 64 = some (.ifCond .ne 36, 3) := by decide +kernel
theorem t_64_100 : tg 64 (36) = some 100 := by decide +kernel
theorem i_191_67 : ins 191 67 = some (.lload 5, 2) := by decide +kernel
theorem i_191_69 : ins 191 69 = some (.aload_n 0, 1) := by decide +kernel
theorem f_191_248 : fld 191 248 = some (7340134, 104, 2) := by decide +kernel
theorem i_191_70 : ins 191 70 = some (.getfield 248, 3) := by decide +kernel
theorem i_191_73 : ins 191 73 = some (.iload 10, 2) := by decide +kernel
theorem i_191_75 : ins 191 75 = some (.laload, 1) := by decide +kernel
theorem i_191_76 : ins 191 76 = some (.aload_n 0, 1) := by decide +kernel
theorem i_191_77 : ins 191 77 = some (.getfield 233, 3) := by decide +kernel
theorem i_191_80 : ins 191 80 = some (.iload 10, 2) := by decide +kernel
theorem i_191_82 : ins 191 82 = some (.iaload, 1) := by decide +kernel
theorem i_191_83 : ins 191 83 = some (.i2l, 1) := by decide +kernel
theorem i_191_84 : ins 191 84 = some (.lmul, 1) := by decide +kernel
theorem i_191_85 : ins 191 85 = some (.ladd, 1) := by decide +kernel
theorem i_191_86 : ins 191 86 = some (.lstore 5, 2) := by decide +kernel
theorem i_191_88 : ins 191 88 = some (.lload 7, 2) := by decide +kernel
theorem i_191_90 : ins 191 90 = some (.aload_n 0, 1) := by decide +kernel
theorem i_191_91 : ins 191 91 = some (.getfield 248, 3) := by decide +kernel
theorem i_191_94 : ins 191 94 = some (.iload 10, 2) := by decide +kernel
theorem i_191_96 : ins 191 96 = some (.laload, 1) := by decide +kernel
theorem i_191_97 : ins 191 97 = some (.ladd, 1) := by decide +kernel
theorem i_191_98 : ins 191 98 = some (.lstore 7, 2) := by decide +kernel
theorem i_191_100 : ins 191 100 = some (.iinc 9 1, 3) := by decide +kernel
theorem i_191_103 : ins 191 103 = some (.goto (-71), 3) := by decide +kernel
theorem t_103_32 : tg 103 (-71) = some 32 := by decide +kernel
theorem i_191_106 : ins 191 106 = some (.lload 7, 2) := by decide +kernel
theorem i_191_108 : ins 191 108 = some (.lconst 0, 1) := by decide +kernel
theorem i_191_109 : ins 191 109 = some (.lcmp, 1) := by decide +kernel
theorem i_191_110 : ins 191 110 = some (.ifCond .ne 7, 3) := by decide +kernel
theorem i_191_113 : ins 191 113 = some (.iconst 0, 1) := by decide +kernel
theorem i_191_114 : ins 191 114 = some (.goto 9, 3) := by decide +kernel
theorem t_114_123 : tg 114 (9) = some 123 := by decide +kernel
theorem i_191_117 : ins 191 117 = some (.lload 5, 2) := by decide +kernel
theorem i_191_119 : ins 191 119 = some (.lload 7, 2) := by decide +kernel
theorem i_191_121 : ins 191 121 = some (.ldiv, 1) := by decide +kernel
theorem i_191_122 : ins 191 122 = some (.l2i, 1) := by decide +kernel
theorem i_191_123 : ins 191 123 = some (.ireturn, 1) := by decide +kernel
theorem i_192_0 : ins 192 0 = some (.iconst (-1), 1) := by decide +kernel
theorem i_192_1 : ins 192 1 = some (.istore 4, 2) := by decide +kernel
theorem i_192_3 : ins 192 3 = some (.iconst 0, 1) := by decide +kernel
theorem i_192_4 : ins 192 4 = some (.istore 5, 2) := by decide +kernel
theorem i_192_6 : ins 192 6 = some (.iload 5, 2) := by decide +kernel
theorem i_192_8 : ins 192 8 = some (.aload_n 0, 1) := by decide +kernel
theorem f_192_611 : fld 192 611 = some (7340134, 95, 0) := by decide +kernel
theorem i_192_9 : ins 192 9 = some (.getfield 611, 3) := by decide +kernel
theorem i_192_12 : ins 192 12 = some (.if_icmp .ge 51, 3) := by decide +kernel
theorem t_12_63 : tg 12 (51) = some 63 := by decide +kernel
theorem i_192_15 : ins 192 15 = some (.aload_n 0, 1) := by decide +kernel
theorem f_192_227 : fld 192 227 = some (7340134, 97, 2) := by decide +kernel
theorem i_192_16 : ins 192 16 = some (.getfield 227, 3) := by decide +kernel
theorem i_192_19 : ins 192 19 = some (.iload 5, 2) := by decide +kernel
theorem i_192_21 : ins 192 21 = some (.iaload, 1) := by decide +kernel
theorem i_192_22 : ins 192 22 = some (.iload_n 1, 1) := by decide +kernel
theorem i_192_23 : ins 192 23 = some (.if_icmp .ne 30, 3) := by decide +kernel
theorem t_23_53 : tg 23 (30) = some 53 := by decide +kernel
theorem i_192_26 : ins 192 26 = some (.aload_n 0, 1) := by decide +kernel
theorem f_192_230 : fld 192 230 = some (7340134, 98, 2) := by decide +kernel
theorem i_192_27 : ins 192 27 = some (.getfield 230, 3) := by decide +kernel
theorem i_192_30 : ins 192 30 = some (.iload 5, 2) := by decide +kernel
theorem i_192_32 : ins 192 32 = some (.iaload, 1) := by decide +kernel
theorem i_192_33 : ins 192 33 = some (.iload_n 2, 1) := by decide +kernel
theorem i_192_34 : ins 192 34 = some (.if_icmp .ge 19, 3) := by decide +kernel
theorem t_34_53 : tg 34 (19) = some 53 := by decide +kernel
theorem i_192_37 : ins 192 37 = some (.aload_n 0, 1) := by decide +kernel
theorem i_192_38 : ins 192 38 = some (.getfield 230, 3) := by decide +kernel
theorem i_192_41 : ins 192 41 = some (.iload 5, 2) := by decide +kernel
theorem i_192_43 : ins 192 43 = some (.iaload, 1) := by decide +kernel
theorem i_192_44 : ins 192 44 = some (.iload_n 3, 1) := by decide +kernel
theorem i_192_45 : ins 192 45 = some (.if_icmp .gt 8, 3) := by decide +kernel
theorem t_45_53 : tg 45 (8) = some 53 := by decide +kernel
theorem i_192_48 : ins 192 48 = some (.iload 5, 2) := by decide +kernel
theorem i_192_50 : ins 192 50 = some (.goto 5, 3) := by decide +kernel
theorem i_192_53 : ins 192 53 = some (.iload 4, 2) := by decide +kernel
theorem i_192_55 : ins 192 55 = some (.istore 4, 2) := by decide +kernel
theorem i_192_57 : ins 192 57 = some (.iinc 5 1, 3) := by decide +kernel
theorem i_192_60 : ins 192 60 = some (.goto (-54), 3) := by decide +kernel
theorem t_60_6 : tg 60 (-54) = some 6 := by decide +kernel
theorem i_192_63 : ins 192 63 = some (.iload 4, 2) := by decide +kernel
theorem r_192 : mret 192 = 1 := by decide +kernel
theorem i_192_65 : ins 192 65 = some (.ireturn, 1) := by decide +kernel
theorem i_193_0 : ins 193 0 = some (.aload_n 0, 1) := by decide +kernel
theorem f_193_631 : fld 193 631 = some (7340134, 96, 0) := by decide +kernel
theorem i_193_1 : ins 193 1 = some (.getfield 631, 3) := by decide +kernel
theorem i_193_4 : ins 193 4 = some (.sipush 200, 3) := by decide +kernel
theorem i_193_7 : ins 193 7 = some (.if_icmp .eq 34, 3) := by decide +kernel
theorem t_7_41 : tg 7 (34) = some 41 := by decide +kernel
theorem i_193_10 : ins 193 10 = some (.aload_n 0, 1) := by decide +kernel
theorem i_193_11 : ins 193 11 = some (.iload_n 1, 1) := by decide +kernel
theorem v_193_277 : inv 193 277 = some (99, 1, 1, 7340134) := by decide +kernel
theorem i_193_12 : ins 193 12 = some (.invokevirtual 277, 3) := by decide +kernel
theorem i_193_15 : ins 193 15 = some (.ifCond .eq 26, 3) := by decide +kernel
theorem t_15_41 : tg 15 (26) = some 41 := by decide +kernel
theorem i_193_18 : ins 193 18 = some (.iload_n 2, 1) := by decide +kernel
theorem i_193_19 : ins 193 19 = some (.iconst 0, 1) := by decide +kernel
theorem i_193_20 : ins 193 20 = some (.aload_n 0, 1) := by decide +kernel
theorem f_193_264 : fld 193 264 = some (7340134, 1, 0) := by decide +kernel
theorem i_193_21 : ins 193 21 = some (.getfield 264, 3) := by decide +kernel
theorem v_193_260 : inv 193 260 = some (94, 3, 0, 0) := by decide +kernel
theorem i_193_24 : ins 193 24 = some (.invokestatic 260, 3) := by decide +kernel
theorem i_193_27 : ins 193 27 = some (.ifCond .eq 14, 3) := by decide +kernel
theorem t_27_41 : tg 27 (14) = some 41 := by decide +kernel
theorem i_193_30 : ins 193 30 = some (.iload_n 3, 1) := by decide +kernel
theorem i_193_31 : ins 193 31 = some (.iconst 1, 1) := by decide +kernel
theorem l_193_634 : ldcv 193 634 = some (vI (nI 999999)) := rfl
theorem i_193_32 : ins 193 32 = some (.ldc_w 634, 3) := by decide +kernel
theorem i_193_35 : ins 193 35 = some (.invokestatic 260, 3) := by decide +kernel
theorem i_193_38 : ins 193 38 = some (.ifCond .ne 5, 3) := by decide +kernel
theorem t_38_43 : tg 38 (5) = some 43 := by decide +kernel
theorem i_193_41 : ins 193 41 = some (.iconst (-1), 1) := by decide +kernel
theorem r_193 : mret 193 = 1 := by decide +kernel
theorem i_193_42 : ins 193 42 = some (.ireturn, 1) := by decide +kernel
theorem i_193_43 : ins 193 43 = some (.aload_n 0, 1) := by decide +kernel
theorem f_193_236 : fld 193 236 = some (7340134, 100, 2) := by decide +kernel
theorem i_193_44 : ins 193 44 = some (.getfield 236, 3) := by decide +kernel
theorem i_193_47 : ins 193 47 = some (.aload_n 0, 1) := by decide +kernel
theorem i_193_48 : ins 193 48 = some (.getfield 631, 3) := by decide +kernel
theorem i_193_51 : ins 193 51 = some (.iload_n 1, 1) := by decide +kernel
theorem kl_147852417 : klen 147852417 = 200 := by decide +kernel
theorem i_193_52 : ins 193 52 = some (.iastore, 1) := by decide +kernel
theorem i_193_53 : ins 193 53 = some (.aload_n 0, 1) := by decide +kernel
theorem f_193_239 : fld 193 239 = some (7340134, 101, 2) := by decide +kernel
theorem i_193_54 : ins 193 54 = some (.getfield 239, 3) := by decide +kernel
theorem i_193_57 : ins 193 57 = some (.aload_n 0, 1) := by decide +kernel
theorem i_193_58 : ins 193 58 = some (.getfield 631, 3) := by decide +kernel
theorem i_193_61 : ins 193 61 = some (.iload_n 2, 1) := by decide +kernel
theorem kl_148900993 : klen 148900993 = 200 := by decide +kernel
theorem i_193_62 : ins 193 62 = some (.iastore, 1) := by decide +kernel
theorem i_193_63 : ins 193 63 = some (.aload_n 0, 1) := by decide +kernel
theorem f_193_242 : fld 193 242 = some (7340134, 102, 2) := by decide +kernel
theorem i_193_64 : ins 193 64 = some (.getfield 242, 3) := by decide +kernel
theorem i_193_67 : ins 193 67 = some (.aload_n 0, 1) := by decide +kernel
theorem i_193_68 : ins 193 68 = some (.getfield 631, 3) := by decide +kernel
theorem i_193_71 : ins 193 71 = some (.iload_n 3, 1) := by decide +kernel
theorem kl_149949569 : klen 149949569 = 200 := by decide +kernel
theorem i_193_72 : ins 193 72 = some (.iastore, 1) := by decide +kernel
theorem i_193_73 : ins 193 73 = some (.aload_n 0, 1) := by decide +kernel
theorem f_193_245 : fld 193 245 = some (7340134, 103, 2) := by decide +kernel
theorem i_193_74 : ins 193 74 = some (.getfield 245, 3) := by decide +kernel
theorem i_193_77 : ins 193 77 = some (.aload_n 0, 1) := by decide +kernel
theorem i_193_78 : ins 193 78 = some (.getfield 631, 3) := by decide +kernel
theorem i_193_81 : ins 193 81 = some (.iload_n 3, 1) := by decide +kernel
theorem i_193_82 : ins 193 82 = some (.aload_n 0, 1) := by decide +kernel
theorem i_193_83 : ins 193 83 = some (.iload_n 1, 1) := by decide +kernel
theorem i_193_84 : ins 193 84 = some (.iload_n 2, 1) := by decide +kernel
theorem i_193_85 : ins 193 85 = some (.aload_n 0, 1) := by decide +kernel
theorem i_193_86 : ins 193 86 = some (.getfield 264, 3) := by decide +kernel
theorem v_193_626 : inv 193 626 = some (191, 3, 1, 7340134) := by decide +kernel
theorem i_193_89 : ins 193 89 = some (.invokevirtual 626, 3) := by decide +kernel
theorem v_193_635 : inv 193 635 = some (194, 2, 0, 0) := by decide +kernel
theorem i_193_92 : ins 193 92 = some (.invokestatic 635, 3) := by decide +kernel
theorem kl_150998145 : klen 150998145 = 200 := by decide +kernel
theorem i_193_95 : ins 193 95 = some (.iastore, 1) := by decide +kernel
theorem i_193_96 : ins 193 96 = some (.aload_n 0, 1) := by decide +kernel
theorem i_193_97 : ins 193 97 = some (.dup, 1) := by decide +kernel
theorem i_193_98 : ins 193 98 = some (.getfield 631, 3) := by decide +kernel
theorem i_193_101 : ins 193 101 = some (.iconst 1, 1) := by decide +kernel
theorem i_193_102 : ins 193 102 = some (.iadd, 1) := by decide +kernel
theorem o_193_7340134_96 : putok 193 7340134 96 = true := by decide +kernel
theorem i_193_103 : ins 193 103 = some (.putfield 631, 3) := by decide +kernel
theorem i_193_106 : ins 193 106 = some (.aload_n 0, 1) := by decide +kernel
theorem i_193_107 : ins 193 107 = some (.getfield 631, 3) := by decide +kernel
theorem i_193_110 : ins 193 110 = some (.iconst 1, 1) := by decide +kernel
theorem i_193_111 : ins 193 111 = some (.isub, 1) := by decide +kernel
theorem i_193_112 : ins 193 112 = some (.ireturn, 1) := by decide +kernel
theorem i_194_0 : ins 194 0 = some (.iload_n 0, 1) := by decide +kernel
theorem i_194_1 : ins 194 1 = some (.i2l, 1) := by decide +kernel
theorem i_194_2 : ins 194 2 = some (.iload_n 1, 1) := by decide +kernel
theorem i_194_3 : ins 194 3 = some (.i2l, 1) := by decide +kernel
theorem i_194_4 : ins 194 4 = some (.lmul, 1) := by decide +kernel
theorem l_194_629 : ldcv 194 629 = some (vL (999)) := rfl
theorem i_194_5 : ins 194 5 = some (.ldc2_w 629, 3) := by decide +kernel
theorem i_194_8 : ins 194 8 = some (.ladd, 1) := by decide +kernel
theorem l_194_535 : ldcv 194 535 = some (vL (1000)) := rfl
theorem i_194_9 : ins 194 9 = some (.ldc2_w 535, 3) := by decide +kernel
theorem i_194_12 : ins 194 12 = some (.ldiv, 1) := by decide +kernel
theorem i_194_13 : ins 194 13 = some (.l2i, 1) := by decide +kernel
theorem r_194 : mret 194 = 1 := by decide +kernel
theorem i_194_14 : ins 194 14 = some (.ireturn, 1) := by decide +kernel
theorem i_195_0 : ins 195 0 = some (.iload_n 1, 1) := by decide +kernel
theorem i_195_1 : ins 195 1 = some (.iconst 0, 1) := by decide +kernel
theorem i_195_2 : ins 195 2 = some (.aload_n 0, 1) := by decide +kernel
theorem f_195_631 : fld 195 631 = some (7340134, 96, 0) := by decide +kernel
theorem i_195_3 : ins 195 3 = some (.getfield 631, 3) := by decide +kernel
theorem i_195_6 : ins 195 6 = some (.iconst 1, 1) := by decide +kernel
theorem i_195_7 : ins 195 7 = some (.isub, 1) := by decide +kernel
theorem v_195_260 : inv 195 260 = some (94, 3, 0, 0) := by decide +kernel
theorem i_195_8 : ins 195 8 = some (.invokestatic 260, 3) := by decide +kernel
theorem i_195_11 : ins 195 11 = some (.ifCond .eq 12, 3) := by decide +kernel
theorem i_195_14 : ins 195 14 = some (.aload_n 0, 1) := by decide +kernel
theorem f_195_254 : fld 195 254 = some (7340134, 106, 2) := by decide +kernel
theorem i_195_15 : ins 195 15 = some (.getfield 254, 3) := by decide +kernel
theorem i_195_18 : ins 195 18 = some (.iload_n 1, 1) := by decide +kernel
theorem kl_154143875 : klen 154143875 = 200 := by decide +kernel
theorem i_195_19 : ins 195 19 = some (.baload, 1) := by decide +kernel
theorem i_195_20 : ins 195 20 = some (.ifCond .eq 7, 3) := by decide +kernel
theorem t_20_27 : tg 20 (7) = some 27 := by decide +kernel
theorem l_195_638 : ldcv 195 638 = some (vI (-2000000000)) := rfl
theorem i_195_23 : ins 195 23 = some (.ldc_w 638, 3) := by decide +kernel
theorem r_195 : mret 195 = 1 := by decide +kernel
theorem i_195_26 : ins 195 26 = some (.ireturn, 1) := by decide +kernel
theorem i_195_27 : ins 195 27 = some (.iconst (-1), 1) := by decide +kernel
theorem i_195_28 : ins 195 28 = some (.istore_n 2, 1) := by decide +kernel
theorem i_195_29 : ins 195 29 = some (.iconst 0, 1) := by decide +kernel
theorem i_195_30 : ins 195 30 = some (.istore_n 3, 1) := by decide +kernel
theorem i_195_31 : ins 195 31 = some (.iload_n 3, 1) := by decide +kernel
theorem i_195_32 : ins 195 32 = some (.aload_n 0, 1) := by decide +kernel
theorem f_195_611 : fld 195 611 = some (7340134, 95, 0) := by decide +kernel
theorem i_195_33 : ins 195 33 = some (.getfield 611, 3) := by decide +kernel
theorem i_195_36 : ins 195 36 = some (.if_icmp .ge 50, 3) := by decide +kernel
theorem t_36_86 : tg 36 (50) = some 86 := by decide +kernel
theorem i_195_39 : ins 195 39 = some (.iload_n 2, 1) := by decide +kernel
theorem i_195_40 : ins 195 40 = some (.iconst (-1), 1) := by decide +kernel
theorem i_195_41 : ins 195 41 = some (.if_icmp .ne 45, 3) := by decide +kernel
theorem t_41_86 : tg 41 (45) = some 86 := by decide +kernel
theorem i_195_44 : ins 195 44 = some (.aload_n 0, 1) := by decide +kernel
theorem f_195_227 : fld 195 227 = some (7340134, 97, 2) := by decide +kernel
theorem i_195_45 : ins 195 45 = some (.getfield 227, 3) := by decide +kernel
theorem i_195_48 : ins 195 48 = some (.iload_n 3, 1) := by decide +kernel
theorem i_195_49 : ins 195 49 = some (.iaload, 1) := by decide +kernel
theorem i_195_50 : ins 195 50 = some (.aload_n 0, 1) := by decide +kernel
theorem f_195_236 : fld 195 236 = some (7340134, 100, 2) := by decide +kernel
theorem i_195_51 : ins 195 51 = some (.getfield 236, 3) := by decide +kernel
theorem i_195_54 : ins 195 54 = some (.iload_n 1, 1) := by decide +kernel
theorem i_195_55 : ins 195 55 = some (.iaload, 1) := by decide +kernel
theorem i_195_56 : ins 195 56 = some (.if_icmp .ne 22, 3) := by decide +kernel
theorem t_56_78 : tg 56 (22) = some 78 := by decide +kernel
theorem i_195_59 : ins 195 59 = some (.aload_n 0, 1) := by decide +kernel
theorem f_195_230 : fld 195 230 = some (7340134, 98, 2) := by decide +kernel
theorem i_195_60 : ins 195 60 = some (.getfield 230, 3) := by decide +kernel
theorem i_195_63 : ins 195 63 = some (.iload_n 3, 1) := by decide +kernel
theorem i_195_64 : ins 195 64 = some (.iaload, 1) := by decide +kernel
theorem i_195_65 : ins 195 65 = some (.aload_n 0, 1) := by decide +kernel
theorem f_195_239 : fld 195 239 = some (7340134, 101, 2) := by decide +kernel
theorem i_195_66 : ins 195 66 = some (.getfield 239, 3) := by decide +kernel
theorem i_195_69 : ins 195 69 = some (.iload_n 1, 1) := by decide +kernel
theorem i_195_70 : ins 195 70 = some (.iaload, 1) := by decide +kernel
theorem i_195_71 : ins 195 71 = some (.if_icmp .le 7, 3) := by decide +kernel
theorem i_195_74 : ins 195 74 = some (.iload_n 3, 1) := by decide +kernel
theorem i_195_75 : ins 195 75 = some (.goto 4, 3) := by decide +kernel
theorem i_195_78 : ins 195 78 = some (.iconst (-1), 1) := by decide +kernel
theorem i_195_79 : ins 195 79 = some (.istore_n 2, 1) := by decide +kernel
theorem i_195_80 : ins 195 80 = some (.iinc 3 1, 3) := by decide +kernel
theorem i_195_83 : ins 195 83 = some (.goto (-52), 3) := by decide +kernel
theorem t_83_31 : tg 83 (-52) = some 31 := by decide +kernel
theorem i_195_86 : ins 195 86 = some (.iload_n 2, 1) := by decide +kernel
theorem i_195_87 : ins 195 87 = some (.iconst (-1), 1) := by decide +kernel
theorem i_195_88 : ins 195 88 = some (.if_icmp .ne 7, 3) := by decide +kernel
theorem t_88_95 : tg 88 (7) = some 95 := by decide +kernel
theorem i_195_91 : ins 195 91 = some (.ldc_w 638, 3) := by decide +kernel
theorem i_195_94 : ins 195 94 = some (.ireturn, 1) := by decide +kernel
theorem i_195_95 : ins 195 95 = some (.aload_n 0, 1) := by decide +kernel
theorem f_195_242 : fld 195 242 = some (7340134, 102, 2) := by decide +kernel
theorem i_195_96 : ins 195 96 = some (.getfield 242, 3) := by decide +kernel
theorem i_195_99 : ins 195 99 = some (.iload_n 1, 1) := by decide +kernel
theorem i_195_100 : ins 195 100 = some (.iaload, 1) := by decide +kernel
theorem i_195_101 : ins 195 101 = some (.aload_n 0, 1) := by decide +kernel
theorem f_195_233 : fld 195 233 = some (7340134, 99, 2) := by decide +kernel
theorem i_195_102 : ins 195 102 = some (.getfield 233, 3) := by decide +kernel
theorem i_195_105 : ins 195 105 = some (.iload_n 2, 1) := by decide +kernel
theorem i_195_106 : ins 195 106 = some (.iaload, 1) := by decide +kernel
theorem v_195_635 : inv 195 635 = some (194, 2, 0, 0) := by decide +kernel
theorem i_195_107 : ins 195 107 = some (.invokestatic 635, 3) := by decide +kernel
theorem i_195_110 : ins 195 110 = some (.istore_n 3, 1) := by decide +kernel
theorem i_195_111 : ins 195 111 = some (.iload_n 3, 1) := by decide +kernel
theorem i_195_112 : ins 195 112 = some (.aload_n 0, 1) := by decide +kernel
theorem f_195_245 : fld 195 245 = some (7340134, 103, 2) := by decide +kernel
theorem i_195_113 : ins 195 113 = some (.getfield 245, 3) := by decide +kernel
theorem i_195_116 : ins 195 116 = some (.iload_n 1, 1) := by decide +kernel
theorem i_195_117 : ins 195 117 = some (.iaload, 1) := by decide +kernel
theorem i_195_118 : ins 195 118 = some (.isub, 1) := by decide +kernel
theorem i_195_119 : ins 195 119 = some (.istore 4, 2) := by decide +kernel
theorem i_195_121 : ins 195 121 = some (.aload_n 0, 1) := by decide +kernel
theorem i_195_122 : ins 195 122 = some (.getfield 245, 3) := by decide +kernel
theorem i_195_125 : ins 195 125 = some (.iload_n 1, 1) := by decide +kernel
theorem i_195_126 : ins 195 126 = some (.iload_n 3, 1) := by decide +kernel
theorem i_195_127 : ins 195 127 = some (.iastore, 1) := by decide +kernel
theorem i_195_128 : ins 195 128 = some (.aload_n 0, 1) := by decide +kernel
theorem i_195_129 : ins 195 129 = some (.getfield 254, 3) := by decide +kernel
theorem i_195_132 : ins 195 132 = some (.iload_n 1, 1) := by decide +kernel
theorem i_195_133 : ins 195 133 = some (.iconst 1, 1) := by decide +kernel
theorem i_195_134 : ins 195 134 = some (.bastore, 1) := by decide +kernel
theorem i_195_135 : ins 195 135 = some (.iload 4, 2) := by decide +kernel
theorem i_195_137 : ins 195 137 = some (.ireturn, 1) := by decide +kernel
theorem i_196_0 : ins 196 0 = some (.iload_n 1, 1) := by decide +kernel
theorem i_196_1 : ins 196 1 = some (.iconst 0, 1) := by decide +kernel
theorem i_196_2 : ins 196 2 = some (.aload_n 0, 1) := by decide +kernel
theorem f_196_631 : fld 196 631 = some (7340134, 96, 0) := by decide +kernel
theorem i_196_3 : ins 196 3 = some (.getfield 631, 3) := by decide +kernel
theorem i_196_6 : ins 196 6 = some (.iconst 1, 1) := by decide +kernel
theorem i_196_7 : ins 196 7 = some (.isub, 1) := by decide +kernel
theorem v_196_260 : inv 196 260 = some (94, 3, 0, 0) := by decide +kernel
theorem i_196_8 : ins 196 8 = some (.invokestatic 260, 3) := by decide +kernel
theorem i_196_11 : ins 196 11 = some (.ifCond .ne 5, 3) := by decide +kernel
theorem i_196_14 : ins 196 14 = some (.iconst (-1), 1) := by decide +kernel
theorem r_196 : mret 196 = 1 := by decide +kernel
theorem i_196_15 : ins 196 15 = some (.ireturn, 1) := by decide +kernel
theorem i_196_16 : ins 196 16 = some (.iload_n 2, 1) := by decide +kernel
theorem i_196_17 : ins 196 17 = some (.tableswitch 78 0 4 #[35, 42, 49, 56, 63], 35) := by decide +kernel
theorem t_17_95 : tg 17 (78) = some 95 := by decide +kernel
theorem i_196_52 : ins 196 52 = some (.aload_n 0, 1) := by decide +kernel
theorem f_196_236 : fld 196 236 = some (7340134, 100, 2) := by decide +kernel
theorem i_196_53 : ins 196 53 = some (.getfield 236, 3) := by decide +kernel
theorem i_196_56 : ins 196 56 = some (.iload_n 1, 1) := by decide +kernel
theorem i_196_57 : ins 196 57 = some (.iaload, 1) := by decide +kernel
theorem i_196_58 : ins 196 58 = some (.ireturn, 1) := by decide +kernel
theorem i_196_59 : ins 196 59 = some (.aload_n 0, 1) := by decide +kernel
theorem f_196_239 : fld 196 239 = some (7340134, 101, 2) := by decide +kernel
theorem i_196_60 : ins 196 60 = some (.getfield 239, 3) := by decide +kernel
theorem i_196_63 : ins 196 63 = some (.iload_n 1, 1) := by decide +kernel
theorem i_196_64 : ins 196 64 = some (.iaload, 1) := by decide +kernel
theorem i_196_65 : ins 196 65 = some (.ireturn, 1) := by decide +kernel
theorem i_196_66 : ins 196 66 = some (.aload_n 0, 1) := by decide +kernel
theorem f_196_242 : fld 196 242 = some (7340134, 102, 2) := by decide +kernel
theorem i_196_67 : ins 196 67 = some (.getfield 242, 3) := by decide +kernel
theorem i_196_70 : ins 196 70 = some (.iload_n 1, 1) := by decide +kernel
theorem i_196_71 : ins 196 71 = some (.iaload, 1) := by decide +kernel
theorem i_196_72 : ins 196 72 = some (.ireturn, 1) := by decide +kernel
theorem i_196_73 : ins 196 73 = some (.aload_n 0, 1) := by decide +kernel
theorem f_196_245 : fld 196 245 = some (7340134, 103, 2) := by decide +kernel
theorem i_196_74 : ins 196 74 = some (.getfield 245, 3) := by decide +kernel
theorem i_196_77 : ins 196 77 = some (.iload_n 1, 1) := by decide +kernel
theorem i_196_78 : ins 196 78 = some (.iaload, 1) := by decide +kernel
theorem i_196_79 : ins 196 79 = some (.ireturn, 1) := by decide +kernel
theorem i_196_80 : ins 196 80 = some (.aload_n 0, 1) := by decide +kernel
theorem f_196_254 : fld 196 254 = some (7340134, 106, 2) := by decide +kernel
theorem i_196_81 : ins 196 81 = some (.getfield 254, 3) := by decide +kernel
theorem i_196_84 : ins 196 84 = some (.iload_n 1, 1) := by decide +kernel
theorem i_196_85 : ins 196 85 = some (.baload, 1) := by decide +kernel
theorem i_196_86 : ins 196 86 = some (.ifCond .eq 7, 3) := by decide +kernel
theorem i_196_89 : ins 196 89 = some (.iconst 1, 1) := by decide +kernel
theorem i_196_90 : ins 196 90 = some (.goto 4, 3) := by decide +kernel
theorem i_196_93 : ins 196 93 = some (.iconst 0, 1) := by decide +kernel
theorem i_196_94 : ins 196 94 = some (.ireturn, 1) := by decide +kernel
theorem i_196_95 : ins 196 95 = some (.iconst (-1), 1) := by decide +kernel
theorem i_196_96 : ins 196 96 = some (.ireturn, 1) := by decide +kernel
theorem i_197_0 : ins 197 0 = some (.lconst 0, 1) := by decide +kernel
theorem i_197_1 : ins 197 1 = some (.lstore_n 2, 1) := by decide +kernel
theorem i_197_2 : ins 197 2 = some (.iload_n 1, 1) := by decide +kernel
theorem i_197_3 : ins 197 3 = some (.tableswitch 128 0 8 #[49, 55, 61, 67, 73, 79, 85, 91, 97], 49) := by decide +kernel
theorem t_3_131 : tg 3 (128) = some 131 := by decide +kernel
theorem i_197_52 : ins 197 52 = some (.aload_n 0, 1) := by decide +kernel
theorem f_197_264 : fld 197 264 = some (7340134, 1, 0) := by decide +kernel
theorem i_197_53 : ins 197 53 = some (.getfield 264, 3) := by decide +kernel
theorem i_197_56 : ins 197 56 = some (.i2l, 1) := by decide +kernel
theorem i_197_57 : ins 197 57 = some (.lreturn, 1) := by decide +kernel
theorem r_197 : mret 197 = 5 := by decide +kernel
theorem i_197_58 : ins 197 58 = some (.aload_n 0, 1) := by decide +kernel
theorem f_197_267 : fld 197 267 = some (7340134, 2, 0) := by decide +kernel
theorem i_197_59 : ins 197 59 = some (.getfield 267, 3) := by decide +kernel
theorem i_197_62 : ins 197 62 = some (.i2l, 1) := by decide +kernel
theorem i_197_63 : ins 197 63 = some (.lreturn, 1) := by decide +kernel
theorem i_197_64 : ins 197 64 = some (.aload_n 0, 1) := by decide +kernel
theorem f_197_290 : fld 197 290 = some (7340134, 11, 0) := by decide +kernel
theorem i_197_65 : ins 197 65 = some (.getfield 290, 3) := by decide +kernel
theorem i_197_68 : ins 197 68 = some (.i2l, 1) := by decide +kernel
theorem i_197_69 : ins 197 69 = some (.lreturn, 1) := by decide +kernel
theorem i_197_70 : ins 197 70 = some (.aload_n 0, 1) := by decide +kernel
theorem f_197_375 : fld 197 375 = some (7340134, 35, 0) := by decide +kernel
theorem i_197_71 : ins 197 71 = some (.getfield 375, 3) := by decide +kernel
theorem i_197_74 : ins 197 74 = some (.i2l, 1) := by decide +kernel
theorem i_197_75 : ins 197 75 = some (.lreturn, 1) := by decide +kernel
theorem i_197_76 : ins 197 76 = some (.aload_n 0, 1) := by decide +kernel
theorem f_197_611 : fld 197 611 = some (7340134, 95, 0) := by decide +kernel
theorem i_197_77 : ins 197 77 = some (.getfield 611, 3) := by decide +kernel
theorem i_197_80 : ins 197 80 = some (.i2l, 1) := by decide +kernel
theorem i_197_81 : ins 197 81 = some (.lreturn, 1) := by decide +kernel
theorem i_197_82 : ins 197 82 = some (.aload_n 0, 1) := by decide +kernel
theorem f_197_631 : fld 197 631 = some (7340134, 96, 0) := by decide +kernel
theorem i_197_83 : ins 197 83 = some (.getfield 631, 3) := by decide +kernel
theorem i_197_86 : ins 197 86 = some (.i2l, 1) := by decide +kernel
theorem i_197_87 : ins 197 87 = some (.lreturn, 1) := by decide +kernel
theorem i_197_88 : ins 197 88 = some (.aload_n 0, 1) := by decide +kernel
theorem f_197_587 : fld 197 587 = some (7340134, 83, 0) := by decide +kernel
theorem i_197_89 : ins 197 89 = some (.getfield 587, 3) := by decide +kernel
theorem i_197_92 : ins 197 92 = some (.i2l, 1) := by decide +kernel
theorem i_197_93 : ins 197 93 = some (.lreturn, 1) := by decide +kernel
theorem i_197_94 : ins 197 94 = some (.aload_n 0, 1) := by decide +kernel
theorem f_197_300 : fld 197 300 = some (7340134, 28, 0) := by decide +kernel
theorem i_197_95 : ins 197 95 = some (.getfield 300, 3) := by decide +kernel
theorem i_197_98 : ins 197 98 = some (.i2l, 1) := by decide +kernel
theorem i_197_99 : ins 197 99 = some (.lreturn, 1) := by decide +kernel
theorem i_197_100 : ins 197 100 = some (.iconst 0, 1) := by decide +kernel
theorem i_197_101 : ins 197 101 = some (.istore 4, 2) := by decide +kernel
theorem i_197_103 : ins 197 103 = some (.iload 4, 2) := by decide +kernel
theorem i_197_105 : ins 197 105 = some (.aload_n 0, 1) := by decide +kernel
theorem i_197_106 : ins 197 106 = some (.getfield 631, 3) := by decide +kernel
theorem i_197_109 : ins 197 109 = some (.if_icmp .ge 20, 3) := by decide +kernel
theorem t_109_129 : tg 109 (20) = some 129 := by decide +kernel
theorem i_197_112 : ins 197 112 = some (.lload_n 2, 1) := by decide +kernel
theorem i_197_113 : ins 197 113 = some (.aload_n 0, 1) := by decide +kernel
theorem f_197_245 : fld 197 245 = some (7340134, 103, 2) := by decide +kernel
theorem i_197_114 : ins 197 114 = some (.getfield 245, 3) := by decide +kernel
theorem i_197_117 : ins 197 117 = some (.iload 4, 2) := by decide +kernel
theorem i_197_119 : ins 197 119 = some (.iaload, 1) := by decide +kernel
theorem i_197_120 : ins 197 120 = some (.i2l, 1) := by decide +kernel
theorem i_197_121 : ins 197 121 = some (.ladd, 1) := by decide +kernel
theorem i_197_122 : ins 197 122 = some (.lstore_n 2, 1) := by decide +kernel
theorem i_197_123 : ins 197 123 = some (.iinc 4 1, 3) := by decide +kernel
theorem i_197_126 : ins 197 126 = some (.goto (-23), 3) := by decide +kernel
theorem t_126_103 : tg 126 (-23) = some 103 := by decide +kernel
theorem i_197_129 : ins 197 129 = some (.lload_n 2, 1) := by decide +kernel
theorem i_197_130 : ins 197 130 = some (.lreturn, 1) := by decide +kernel
theorem l_197_639 : ldcv 197 639 = some (vL (-1)) := rfl
theorem i_197_131 : ins 197 131 = some (.ldc2_w 639, 3) := by decide +kernel
theorem i_197_134 : ins 197 134 = some (.lreturn, 1) := by decide +kernel
theorem i_198_0 : ins 198 0 = some (.aload_n 0, 1) := by decide +kernel
theorem v_198_1 : inv 198 1 = some (0, 0, 4, 0) := by decide +kernel
theorem i_198_1 : ins 198 1 = some (.invokespecial 1, 3) := by decide +kernel
theorem i_198_4 : ins 198 4 = some (.aload_n 0, 1) := by decide +kernel
theorem i_198_5 : ins 198 5 = some (.iload_n 1, 1) := by decide +kernel
theorem f_198_7 : fld 198 7 = some (8388726, 0, 0) := by decide +kernel
theorem o_198_8388726_0 : putok 198 8388726 0 = true := by decide +kernel
theorem i_198_6 : ins 198 6 = some (.putfield 7, 3) := by decide +kernel
theorem i_198_9 : ins 198 9 = some (.aload_n 0, 1) := by decide +kernel
theorem i_198_10 : ins 198 10 = some (.iload_n 2, 1) := by decide +kernel
theorem f_198_13 : fld 198 13 = some (8388726, 1, 0) := by decide +kernel
theorem o_198_8388726_1 : putok 198 8388726 1 = true := by decide +kernel
theorem i_198_11 : ins 198 11 = some (.putfield 13, 3) := by decide +kernel
theorem i_198_14 : ins 198 14 = some (.aload_n 0, 1) := by decide +kernel
theorem i_198_15 : ins 198 15 = some (.iload_n 3, 1) := by decide +kernel
theorem f_198_16 : fld 198 16 = some (8388726, 2, 0) := by decide +kernel
theorem o_198_8388726_2 : putok 198 8388726 2 = true := by decide +kernel
theorem i_198_16 : ins 198 16 = some (.putfield 16, 3) := by decide +kernel
theorem i_198_19 : ins 198 19 = some (.aload_n 0, 1) := by decide +kernel
theorem i_198_20 : ins 198 20 = some (.iload 4, 2) := by decide +kernel
theorem f_198_19 : fld 198 19 = some (8388726, 3, 0) := by decide +kernel
theorem o_198_8388726_3 : putok 198 8388726 3 = true := by decide +kernel
theorem i_198_22 : ins 198 22 = some (.putfield 19, 3) := by decide +kernel
theorem i_198_25 : ins 198 25 = some (.aload_n 0, 1) := by decide +kernel
theorem i_198_26 : ins 198 26 = some (.iload 5, 2) := by decide +kernel
theorem f_198_22 : fld 198 22 = some (8388726, 4, 0) := by decide +kernel
theorem o_198_8388726_4 : putok 198 8388726 4 = true := by decide +kernel
theorem i_198_28 : ins 198 28 = some (.putfield 22, 3) := by decide +kernel
theorem i_198_31 : ins 198 31 = some (.return_, 1) := by decide +kernel
theorem r_198 : mret 198 = 0 := by decide +kernel
theorem i_199_0 : ins 199 0 = some (.aload_n 0, 1) := by decide +kernel
theorem v_199_3 : inv 199 3 = some (0, 0, 4, 0) := by decide +kernel
theorem i_199_1 : ins 199 1 = some (.invokespecial 3, 3) := by decide +kernel
theorem i_199_4 : ins 199 4 = some (.aload_n 0, 1) := by decide +kernel
theorem i_199_5 : ins 199 5 = some (.iconst (-1), 1) := by decide +kernel
theorem f_199_9 : fld 199 9 = some (9437318, 9, 0) := by decide +kernel
theorem o_199_9437318_9 : putok 199 9437318 9 = true := by decide +kernel
theorem i_199_6 : ins 199 6 = some (.putfield 9, 3) := by decide +kernel
theorem i_199_9 : ins 199 9 = some (.aload_n 0, 1) := by decide +kernel
theorem i_199_10 : ins 199 10 = some (.iload_n 1, 1) := by decide +kernel
theorem f_199_15 : fld 199 15 = some (9437318, 0, 0) := by decide +kernel
theorem o_199_9437318_0 : putok 199 9437318 0 = true := by decide +kernel
theorem i_199_11 : ins 199 11 = some (.putfield 15, 3) := by decide +kernel
theorem i_199_14 : ins 199 14 = some (.aload_n 0, 1) := by decide +kernel
theorem i_199_15 : ins 199 15 = some (.iload_n 2, 1) := by decide +kernel
theorem f_199_18 : fld 199 18 = some (9437318, 7, 5) := by decide +kernel
theorem o_199_9437318_7 : putok 199 9437318 7 = true := by decide +kernel
theorem i_199_16 : ins 199 16 = some (.putfield 18, 3) := by decide +kernel
theorem i_199_19 : ins 199 19 = some (.aload_n 0, 1) := by decide +kernel
theorem i_199_20 : ins 199 20 = some (.iload_n 3, 1) := by decide +kernel
theorem f_199_22 : fld 199 22 = some (9437318, 1, 0) := by decide +kernel
theorem o_199_9437318_1 : putok 199 9437318 1 = true := by decide +kernel
theorem i_199_21 : ins 199 21 = some (.putfield 22, 3) := by decide +kernel
theorem i_199_24 : ins 199 24 = some (.aload_n 0, 1) := by decide +kernel
theorem i_199_25 : ins 199 25 = some (.iload 4, 2) := by decide +kernel
theorem f_199_25 : fld 199 25 = some (9437318, 3, 0) := by decide +kernel
theorem o_199_9437318_3 : putok 199 9437318 3 = true := by decide +kernel
theorem i_199_27 : ins 199 27 = some (.putfield 25, 3) := by decide +kernel
theorem i_199_30 : ins 199 30 = some (.aload_n 0, 1) := by decide +kernel
theorem i_199_31 : ins 199 31 = some (.iload 4, 2) := by decide +kernel
theorem i_199_33 : ins 199 33 = some (.bipush 30, 2) := by decide +kernel
theorem i_199_35 : ins 199 35 = some (.idiv, 1) := by decide +kernel
theorem f_199_28 : fld 199 28 = some (9437318, 2, 0) := by decide +kernel
theorem o_199_9437318_2 : putok 199 9437318 2 = true := by decide +kernel
theorem i_199_36 : ins 199 36 = some (.putfield 28, 3) := by decide +kernel
theorem i_199_39 : ins 199 39 = some (.aload_n 0, 1) := by decide +kernel
theorem i_199_40 : ins 199 40 = some (.iload 5, 2) := by decide +kernel
theorem f_199_31 : fld 199 31 = some (9437318, 4, 0) := by decide +kernel
theorem o_199_9437318_4 : putok 199 9437318 4 = true := by decide +kernel
theorem i_199_42 : ins 199 42 = some (.putfield 31, 3) := by decide +kernel
theorem i_199_45 : ins 199 45 = some (.aload_n 0, 1) := by decide +kernel
theorem i_199_46 : ins 199 46 = some (.iload 6, 2) := by decide +kernel
theorem f_199_34 : fld 199 34 = some (9437318, 5, 0) := by decide +kernel
theorem o_199_9437318_5 : putok 199 9437318 5 = true := by decide +kernel
theorem i_199_48 : ins 199 48 = some (.putfield 34, 3) := by decide +kernel
theorem i_199_51 : ins 199 51 = some (.aload_n 0, 1) := by decide +kernel
theorem i_199_52 : ins 199 52 = some (.iload 7, 2) := by decide +kernel
theorem f_199_37 : fld 199 37 = some (9437318, 8, 5) := by decide +kernel
theorem o_199_9437318_8 : putok 199 9437318 8 = true := by decide +kernel
theorem i_199_54 : ins 199 54 = some (.putfield 37, 3) := by decide +kernel
theorem i_199_57 : ins 199 57 = some (.aload_n 0, 1) := by decide +kernel
theorem i_199_58 : ins 199 58 = some (.iload 8, 2) := by decide +kernel
theorem f_199_40 : fld 199 40 = some (9437318, 6, 0) := by decide +kernel
theorem o_199_9437318_6 : putok 199 9437318 6 = true := by decide +kernel
theorem i_199_60 : ins 199 60 = some (.putfield 40, 3) := by decide +kernel
theorem i_199_63 : ins 199 63 = some (.return_, 1) := by decide +kernel
theorem r_199 : mret 199 = 0 := by decide +kernel
theorem i_200_0 : ins 200 0 = some (.aload_n 0, 1) := by decide +kernel
theorem f_200_40 : fld 200 40 = some (9437318, 6, 0) := by decide +kernel
theorem i_200_1 : ins 200 1 = some (.getfield 40, 3) := by decide +kernel
theorem i_200_4 : ins 200 4 = some (.iload_n 1, 1) := by decide +kernel
theorem i_200_5 : ins 200 5 = some (.if_icmp .gt 23, 3) := by decide +kernel
theorem i_200_8 : ins 200 8 = some (.aload_n 0, 1) := by decide +kernel
theorem f_200_9 : fld 200 9 = some (9437318, 9, 0) := by decide +kernel
theorem i_200_9 : ins 200 9 = some (.getfield 9, 3) := by decide +kernel
theorem i_200_12 : ins 200 12 = some (.iconst (-1), 1) := by decide +kernel
theorem i_200_13 : ins 200 13 = some (.if_icmp .eq 11, 3) := by decide +kernel
theorem t_13_24 : tg 13 (11) = some 24 := by decide +kernel
theorem i_200_16 : ins 200 16 = some (.aload_n 0, 1) := by decide +kernel
theorem i_200_17 : ins 200 17 = some (.getfield 9, 3) := by decide +kernel
theorem i_200_20 : ins 200 20 = some (.iload_n 1, 1) := by decide +kernel
theorem i_200_21 : ins 200 21 = some (.if_icmp .le 7, 3) := by decide +kernel
theorem i_200_24 : ins 200 24 = some (.iconst 1, 1) := by decide +kernel
theorem i_200_25 : ins 200 25 = some (.goto 4, 3) := by decide +kernel
theorem t_25_29 : tg 25 (4) = some 29 := by decide +kernel
theorem i_200_28 : ins 200 28 = some (.iconst 0, 1) := by decide +kernel
theorem r_200 : mret 200 = 2 := by decide +kernel
theorem i_200_29 : ins 200 29 = some (.ireturn, 1) := by decide +kernel
theorem i_201_0 : ins 201 0 = some (.aload_n 0, 1) := by decide +kernel
theorem v_201_1 : inv 201 1 = some (0, 0, 4, 0) := by decide +kernel
theorem i_201_1 : ins 201 1 = some (.invokespecial 1, 3) := by decide +kernel
theorem i_201_4 : ins 201 4 = some (.aload_n 0, 1) := by decide +kernel
theorem i_201_5 : ins 201 5 = some (.iload_n 1, 1) := by decide +kernel
theorem f_201_7 : fld 201 7 = some (10485910, 0, 0) := by decide +kernel
theorem o_201_10485910_0 : putok 201 10485910 0 = true := by decide +kernel
theorem i_201_6 : ins 201 6 = some (.putfield 7, 3) := by decide +kernel
theorem i_201_9 : ins 201 9 = some (.aload_n 0, 1) := by decide +kernel
theorem i_201_10 : ins 201 10 = some (.iload_n 2, 1) := by decide +kernel
theorem f_201_13 : fld 201 13 = some (10485910, 1, 0) := by decide +kernel
theorem o_201_10485910_1 : putok 201 10485910 1 = true := by decide +kernel
theorem i_201_11 : ins 201 11 = some (.putfield 13, 3) := by decide +kernel
theorem i_201_14 : ins 201 14 = some (.aload_n 0, 1) := by decide +kernel
theorem i_201_15 : ins 201 15 = some (.iload_n 3, 1) := by decide +kernel
theorem f_201_16 : fld 201 16 = some (10485910, 2, 0) := by decide +kernel
theorem o_201_10485910_2 : putok 201 10485910 2 = true := by decide +kernel
theorem i_201_16 : ins 201 16 = some (.putfield 16, 3) := by decide +kernel
theorem i_201_19 : ins 201 19 = some (.aload_n 0, 1) := by decide +kernel
theorem i_201_20 : ins 201 20 = some (.iload 4, 2) := by decide +kernel
theorem f_201_19 : fld 201 19 = some (10485910, 4, 5) := by decide +kernel
theorem o_201_10485910_4 : putok 201 10485910 4 = true := by decide +kernel
theorem i_201_22 : ins 201 22 = some (.putfield 19, 3) := by decide +kernel
theorem i_201_25 : ins 201 25 = some (.aload_n 0, 1) := by decide +kernel
theorem i_201_26 : ins 201 26 = some (.iload 5, 2) := by decide +kernel
theorem f_201_23 : fld 201 23 = some (10485910, 3, 0) := by decide +kernel
theorem o_201_10485910_3 : putok 201 10485910 3 = true := by decide +kernel
theorem i_201_28 : ins 201 28 = some (.putfield 23, 3) := by decide +kernel
theorem i_201_31 : ins 201 31 = some (.return_, 1) := by decide +kernel
theorem r_201 : mret 201 = 0 := by decide +kernel
theorem i_202_0 : ins 202 0 = some (.aload_n 0, 1) := by decide +kernel
theorem i_202_1 : ins 202 1 = some (.aload_n 1, 1) := by decide +kernel
theorem f_202_3 : fld 202 3 = some (11534502, 6, 2) := by decide +kernel
theorem o_202_11534502_6 : putok 202 11534502 6 = true := by decide +kernel
theorem i_202_2 : ins 202 2 = some (.putfield 3, 3) := by decide +kernel
theorem i_202_5 : ins 202 5 = some (.aload_n 0, 1) := by decide +kernel
theorem v_202_9 : inv 202 9 = some (0, 0, 4, 0) := by decide +kernel
theorem i_202_6 : ins 202 6 = some (.invokespecial 9, 3) := by decide +kernel
theorem i_202_9 : ins 202 9 = some (.aload_n 0, 1) := by decide +kernel
theorem n_202_15 : newk 202 15 = some (3145766, 8) := by decide +kernel
theorem i_202_10 : ins 202 10 = some (.new 15, 3) := by decide +kernel
theorem i_202_13 : ins 202 13 = some (.dup, 1) := by decide +kernel
theorem v_202_17 : inv 202 17 = some (66, 0, 2, 0) := by decide +kernel
theorem i_202_14 : ins 202 14 = some (.invokespecial 17, 3) := by decide +kernel
theorem f_202_18 : fld 202 18 = some (11534502, 0, 2) := by decide +kernel
theorem o_202_11534502_0 : putok 202 11534502 0 = true := by decide +kernel
theorem i_202_17 : ins 202 17 = some (.putfield 18, 3) := by decide +kernel
theorem i_202_20 : ins 202 20 = some (.return_, 1) := by decide +kernel
theorem r_202 : mret 202 = 0 := by decide +kernel
theorem i_203_0 : ins 203 0 = some (.aload_n 0, 1) := by decide +kernel
theorem v_203_45 : inv 203 45 = some (204, 0, 1, 11534502) := by decide +kernel
theorem i_203_1 : ins 203 1 = some (.invokevirtual 45, 3) := by decide +kernel
theorem i_203_4 : ins 203 4 = some (.pop, 1) := by decide +kernel
theorem i_203_5 : ins 203 5 = some (.aload_n 0, 1) := by decide +kernel
theorem i_203_6 : ins 203 6 = some (.aload_n 0, 1) := by decide +kernel
theorem f_203_35 : fld 203 35 = some (11534502, 1, 0) := by decide +kernel
theorem i_203_7 : ins 203 7 = some (.getfield 35, 3) := by decide +kernel
theorem v_203_79 : inv 203 79 = some (205, 1, 1, 11534502) := by decide +kernel
theorem i_203_10 : ins 203 10 = some (.invokevirtual 79, 3) := by decide +kernel
theorem i_203_13 : ins 203 13 = some (.aload_n 0, 1) := by decide +kernel
theorem i_203_14 : ins 203 14 = some (.bipush 59, 2) := by decide +kernel
theorem v_203_49 : inv 203 49 = some (218, 1, 1, 11534502) := by decide +kernel
theorem i_203_16 : ins 203 16 = some (.invokevirtual 49, 3) := by decide +kernel
theorem i_203_19 : ins 203 19 = some (.ifCond .ne (-19), 3) := by decide +kernel
theorem t_19_0 : tg 19 (-19) = some 0 := by decide +kernel
theorem i_203_22 : ins 203 22 = some (.aload_n 0, 1) := by decide +kernel
theorem i_203_23 : ins 203 23 = some (.aload_n 0, 1) := by decide +kernel
theorem i_203_24 : ins 203 24 = some (.invokevirtual 45, 3) := by decide +kernel
theorem i_203_27 : ins 203 27 = some (.iconst (-1), 1) := by decide +kernel
theorem i_203_28 : ins 203 28 = some (.if_icmp .ne 7, 3) := by decide +kernel
theorem i_203_31 : ins 203 31 = some (.iconst 1, 1) := by decide +kernel
theorem i_203_32 : ins 203 32 = some (.goto 4, 3) := by decide +kernel
theorem i_203_35 : ins 203 35 = some (.iconst 0, 1) := by decide +kernel
theorem i_203_36 : ins 203 36 = some (.iconst 0, 1) := by decide +kernel
theorem i_203_37 : ins 203 37 = some (.aload_n 0, 1) := by decide +kernel
theorem i_203_38 : ins 203 38 = some (.getfield 35, 3) := by decide +kernel
theorem v_203_53 : inv 203 53 = some (208, 3, 1, 11534502) := by decide +kernel
theorem i_203_41 : ins 203 41 = some (.invokevirtual 53, 3) := by decide +kernel
theorem i_203_44 : ins 203 44 = some (.aload_n 0, 1) := by decide +kernel
theorem f_203_18 : fld 203 18 = some (11534502, 0, 2) := by decide +kernel
theorem i_203_45 : ins 203 45 = some (.getfield 18, 3) := by decide +kernel
theorem i_203_48 : ins 203 48 = some (.areturn, 1) := by decide +kernel
theorem r_203 : mret 203 = 6 := by decide +kernel
theorem i_204_0 : ins 204 0 = some (.aload_n 0, 1) := by decide +kernel
theorem f_204_35 : fld 204 35 = some (11534502, 1, 0) := by decide +kernel
theorem i_204_1 : ins 204 1 = some (.getfield 35, 3) := by decide +kernel
theorem i_204_4 : ins 204 4 = some (.aload_n 0, 1) := by decide +kernel
theorem f_204_3 : fld 204 3 = some (11534502, 6, 2) := by decide +kernel
theorem i_204_5 : ins 204 5 = some (.getfield 3, 3) := by decide +kernel
theorem f_204_38 : fld 204 38 = some (1048582, 12, 0) := by decide +kernel
theorem i_204_8 : ins 204 8 = some (.getfield 38, 3) := by decide +kernel
theorem i_204_11 : ins 204 11 = some (.if_icmp .ge 33, 3) := by decide +kernel
theorem t_11_44 : tg 11 (33) = some 44 := by decide +kernel
theorem i_204_14 : ins 204 14 = some (.aload_n 0, 1) := by decide +kernel
theorem i_204_15 : ins 204 15 = some (.getfield 3, 3) := by decide +kernel
theorem f_204_41 : fld 204 41 = some (1048582, 11, 2) := by decide +kernel
theorem i_204_18 : ins 204 18 = some (.getfield 41, 3) := by decide +kernel
theorem i_204_21 : ins 204 21 = some (.aload_n 0, 1) := by decide +kernel
theorem i_204_22 : ins 204 22 = some (.getfield 35, 3) := by decide +kernel
theorem i_204_25 : ins 204 25 = some (.baload, 1) := by decide +kernel
theorem i_204_26 : ins 204 26 = some (.bipush 32, 2) := by decide +kernel
theorem i_204_28 : ins 204 28 = some (.if_icmp .ne 16, 3) := by decide +kernel
theorem t_28_44 : tg 28 (16) = some 44 := by decide +kernel
theorem i_204_31 : ins 204 31 = some (.aload_n 0, 1) := by decide +kernel
theorem i_204_32 : ins 204 32 = some (.dup, 1) := by decide +kernel
theorem i_204_33 : ins 204 33 = some (.getfield 35, 3) := by decide +kernel
theorem i_204_36 : ins 204 36 = some (.iconst 1, 1) := by decide +kernel
theorem i_204_37 : ins 204 37 = some (.iadd, 1) := by decide +kernel
theorem o_204_11534502_1 : putok 204 11534502 1 = true := by decide +kernel
theorem i_204_38 : ins 204 38 = some (.putfield 35, 3) := by decide +kernel
theorem i_204_41 : ins 204 41 = some (.goto (-41), 3) := by decide +kernel
theorem t_41_0 : tg 41 (-41) = some 0 := by decide +kernel
theorem i_204_44 : ins 204 44 = some (.aload_n 0, 1) := by decide +kernel
theorem i_204_45 : ins 204 45 = some (.getfield 35, 3) := by decide +kernel
theorem i_204_48 : ins 204 48 = some (.aload_n 0, 1) := by decide +kernel
theorem i_204_49 : ins 204 49 = some (.getfield 3, 3) := by decide +kernel
theorem i_204_52 : ins 204 52 = some (.getfield 38, 3) := by decide +kernel
theorem i_204_55 : ins 204 55 = some (.if_icmp .ge 22, 3) := by decide +kernel
theorem t_55_77 : tg 55 (22) = some 77 := by decide +kernel
theorem i_204_58 : ins 204 58 = some (.aload_n 0, 1) := by decide +kernel
theorem i_204_59 : ins 204 59 = some (.getfield 3, 3) := by decide +kernel
theorem i_204_62 : ins 204 62 = some (.getfield 41, 3) := by decide +kernel
theorem i_204_65 : ins 204 65 = some (.aload_n 0, 1) := by decide +kernel
theorem i_204_66 : ins 204 66 = some (.getfield 35, 3) := by decide +kernel
theorem i_204_69 : ins 204 69 = some (.baload, 1) := by decide +kernel
theorem kS_255 : (Int16.ofInt (255)).toInt32 = nI 255 := by decide +kernel
theorem i_204_70 : ins 204 70 = some (.sipush 255, 3) := by decide +kernel
theorem i_204_73 : ins 204 73 = some (.iand, 1) := by decide +kernel
theorem i_204_74 : ins 204 74 = some (.goto 4, 3) := by decide +kernel
theorem t_74_78 : tg 74 (4) = some 78 := by decide +kernel
theorem i_204_77 : ins 204 77 = some (.iconst (-1), 1) := by decide +kernel
theorem r_204 : mret 204 = 1 := by decide +kernel
theorem i_204_78 : ins 204 78 = some (.ireturn, 1) := by decide +kernel
theorem i_205_0 : ins 205 0 = some (.aload_n 0, 1) := by decide +kernel
theorem v_205_91 : inv 205 91 = some (206, 0, 1, 11534502) := by decide +kernel
theorem i_205_1 : ins 205 1 = some (.invokevirtual 91, 3) := by decide +kernel
theorem i_205_4 : ins 205 4 = some (.istore_n 2, 1) := by decide +kernel
theorem i_205_5 : ins 205 5 = some (.aload_n 0, 1) := by decide +kernel
theorem l_205_94 : ldcv 205 94 = some (vR (8, 20)) := rfl
theorem i_205_6 : ins 205 6 = some (.ldc 94, 2) := by decide +kernel
theorem v_205_66 : inv 205 66 = some (207, 1, 1, 11534502) := by decide +kernel
theorem i_205_8 : ins 205 8 = some (.invokevirtual 66, 3) := by decide +kernel
theorem i_205_11 : ins 205 11 = some (.ifCond .ne 21, 3) := by decide +kernel
theorem t_11_32 : tg 11 (21) = some 32 := by decide +kernel
theorem i_205_14 : ins 205 14 = some (.aload_n 0, 1) := by decide +kernel
theorem l_205_96 : ldcv 205 96 = some (vR (8, 21)) := rfl
theorem i_205_15 : ins 205 15 = some (.ldc 96, 2) := by decide +kernel
theorem i_205_17 : ins 205 17 = some (.invokevirtual 66, 3) := by decide +kernel
theorem i_205_20 : ins 205 20 = some (.ifCond .ne 12, 3) := by decide +kernel
theorem t_20_32 : tg 20 (12) = some 32 := by decide +kernel
theorem i_205_23 : ins 205 23 = some (.aload_n 0, 1) := by decide +kernel
theorem l_205_98 : ldcv 205 98 = some (vR (8, 22)) := rfl
theorem i_205_24 : ins 205 24 = some (.ldc 98, 2) := by decide +kernel
theorem i_205_26 : ins 205 26 = some (.invokevirtual 66, 3) := by decide +kernel
theorem i_205_29 : ins 205 29 = some (.ifCond .eq 7, 3) := by decide +kernel
theorem i_205_32 : ins 205 32 = some (.iconst 1, 1) := by decide +kernel
theorem i_205_33 : ins 205 33 = some (.goto 4, 3) := by decide +kernel
theorem t_33_37 : tg 33 (4) = some 37 := by decide +kernel
theorem i_205_36 : ins 205 36 = some (.iconst 0, 1) := by decide +kernel
theorem i_205_37 : ins 205 37 = some (.istore_n 3, 1) := by decide +kernel
theorem i_205_38 : ins 205 38 = some (.aload_n 0, 1) := by decide +kernel
theorem i_205_39 : ins 205 39 = some (.iload_n 2, 1) := by decide +kernel
theorem i_205_40 : ins 205 40 = some (.iconst (-1), 1) := by decide +kernel
theorem i_205_41 : ins 205 41 = some (.if_icmp .ne 7, 3) := by decide +kernel
theorem t_41_48 : tg 41 (7) = some 48 := by decide +kernel
theorem i_205_44 : ins 205 44 = some (.iload_n 3, 1) := by decide +kernel
theorem i_205_45 : ins 205 45 = some (.ifCond .eq 7, 3) := by decide +kernel
theorem i_205_48 : ins 205 48 = some (.iconst 1, 1) := by decide +kernel
theorem i_205_49 : ins 205 49 = some (.goto 4, 3) := by decide +kernel
theorem i_205_52 : ins 205 52 = some (.iconst 0, 1) := by decide +kernel
theorem i_205_53 : ins 205 53 = some (.iconst 0, 1) := by decide +kernel
theorem i_205_54 : ins 205 54 = some (.iload_n 1, 1) := by decide +kernel
theorem v_205_53 : inv 205 53 = some (208, 3, 1, 11534502) := by decide +kernel
theorem i_205_55 : ins 205 55 = some (.invokevirtual 53, 3) := by decide +kernel
theorem i_205_58 : ins 205 58 = some (.aload_n 0, 1) := by decide +kernel
theorem i_205_59 : ins 205 59 = some (.aload_n 0, 1) := by decide +kernel
theorem f_205_100 : fld 205 100 = some (11534502, 5, 0) := by decide +kernel
theorem i_205_60 : ins 205 60 = some (.getfield 100, 3) := by decide +kernel
theorem i_205_63 : ins 205 63 = some (.bipush 12, 2) := by decide +kernel
theorem i_205_65 : ins 205 65 = some (.if_icmp .ge 7, 3) := by decide +kernel
theorem t_65_72 : tg 65 (7) = some 72 := by decide +kernel
theorem i_205_68 : ins 205 68 = some (.iconst 1, 1) := by decide +kernel
theorem i_205_69 : ins 205 69 = some (.goto 4, 3) := by decide +kernel
theorem t_69_73 : tg 69 (4) = some 73 := by decide +kernel
theorem i_205_72 : ins 205 72 = some (.iconst 0, 1) := by decide +kernel
theorem i_205_73 : ins 205 73 = some (.iconst 4, 1) := by decide +kernel
theorem i_205_74 : ins 205 74 = some (.iload_n 1, 1) := by decide +kernel
theorem i_205_75 : ins 205 75 = some (.invokevirtual 53, 3) := by decide +kernel
theorem i_205_78 : ins 205 78 = some (.aload_n 0, 1) := by decide +kernel
theorem i_205_79 : ins 205 79 = some (.dup, 1) := by decide +kernel
theorem i_205_80 : ins 205 80 = some (.getfield 100, 3) := by decide +kernel
theorem i_205_83 : ins 205 83 = some (.iconst 1, 1) := by decide +kernel
theorem i_205_84 : ins 205 84 = some (.iadd, 1) := by decide +kernel
theorem o_205_11534502_5 : putok 205 11534502 5 = true := by decide +kernel
theorem i_205_85 : ins 205 85 = some (.putfield 100, 3) := by decide +kernel
theorem i_205_88 : ins 205 88 = some (.iload_n 3, 1) := by decide +kernel
theorem i_205_89 : ins 205 89 = some (.ifCond .eq 10, 3) := by decide +kernel
theorem t_89_99 : tg 89 (10) = some 99 := by decide +kernel
theorem i_205_92 : ins 205 92 = some (.aload_n 0, 1) := by decide +kernel
theorem v_205_103 : inv 205 103 = some (209, 0, 1, 11534502) := by decide +kernel
theorem i_205_93 : ins 205 93 = some (.invokevirtual 103, 3) := by decide +kernel
theorem i_205_96 : ins 205 96 = some (.goto 9, 3) := by decide +kernel
theorem t_96_105 : tg 96 (9) = some 105 := by decide +kernel
theorem i_205_99 : ins 205 99 = some (.aload_n 0, 1) := by decide +kernel
theorem i_205_100 : ins 205 100 = some (.iload_n 2, 1) := by decide +kernel
theorem i_205_101 : ins 205 101 = some (.iload_n 1, 1) := by decide +kernel
theorem v_205_106 : inv 205 106 = some (224, 2, 1, 11534502) := by decide +kernel
theorem i_205_102 : ins 205 102 = some (.invokevirtual 106, 3) := by decide +kernel
theorem i_205_105 : ins 205 105 = some (.return_, 1) := by decide +kernel
theorem r_205 : mret 205 = 0 := by decide +kernel
theorem i_206_0 : ins 206 0 = some (.iconst 0, 1) := by decide +kernel
theorem i_206_1 : ins 206 1 = some (.istore_n 1, 1) := by decide +kernel
theorem i_206_2 : ins 206 2 = some (.iload_n 1, 1) := by decide +kernel
theorem i_206_3 : ins 206 3 = some (.aload_n 0, 1) := by decide +kernel
theorem f_206_3 : fld 206 3 = some (11534502, 6, 2) := by decide +kernel
theorem i_206_4 : ins 206 4 = some (.getfield 3, 3) := by decide +kernel
theorem f_206_83 : fld 206 83 = some (1048582, 14, 2) := by decide +kernel
theorem i_206_7 : ins 206 7 = some (.getfield 83, 3) := by decide +kernel
theorem i_206_10 : ins 206 10 = some (.arraylength, 1) := by decide +kernel
theorem kl_30408773 : klen 30408773 = 4 := by decide +kernel
theorem i_206_11 : ins 206 11 = some (.if_icmp .ge 27, 3) := by decide +kernel
theorem t_11_38 : tg 11 (27) = some 38 := by decide +kernel
theorem i_206_14 : ins 206 14 = some (.aload_n 0, 1) := by decide +kernel
theorem i_206_15 : ins 206 15 = some (.aload_n 0, 1) := by decide +kernel
theorem i_206_16 : ins 206 16 = some (.getfield 3, 3) := by decide +kernel
theorem i_206_19 : ins 206 19 = some (.getfield 83, 3) := by decide +kernel
theorem i_206_22 : ins 206 22 = some (.iload_n 1, 1) := by decide +kernel
theorem i_206_23 : ins 206 23 = some (.aaload, 1) := by decide +kernel
theorem v_206_66 : inv 206 66 = some (207, 1, 1, 11534502) := by decide +kernel
theorem i_206_24 : ins 206 24 = some (.invokevirtual 66, 3) := by decide +kernel
theorem i_206_27 : ins 206 27 = some (.ifCond .eq 5, 3) := by decide +kernel
theorem i_206_30 : ins 206 30 = some (.iload_n 1, 1) := by decide +kernel
theorem r_206 : mret 206 = 1 := by decide +kernel
theorem i_206_31 : ins 206 31 = some (.ireturn, 1) := by decide +kernel
theorem i_206_32 : ins 206 32 = some (.iinc 1 1, 3) := by decide +kernel
theorem i_206_35 : ins 206 35 = some (.goto (-33), 3) := by decide +kernel
theorem t_35_2 : tg 35 (-33) = some 2 := by decide +kernel
theorem i_206_38 : ins 206 38 = some (.aload_n 0, 1) := by decide +kernel
theorem l_206_87 : ldcv 206 87 = some (vR (8, 18)) := rfl
theorem i_206_39 : ins 206 39 = some (.ldc 87, 2) := by decide +kernel
theorem i_206_41 : ins 206 41 = some (.invokevirtual 66, 3) := by decide +kernel
theorem i_206_44 : ins 206 44 = some (.ifCond .eq 7, 3) := by decide +kernel
theorem t_44_51 : tg 44 (7) = some 51 := by decide +kernel
theorem i_206_47 : ins 206 47 = some (.iconst 4, 1) := by decide +kernel
theorem i_206_48 : ins 206 48 = some (.goto 17, 3) := by decide +kernel
theorem t_48_65 : tg 48 (17) = some 65 := by decide +kernel
theorem i_206_51 : ins 206 51 = some (.aload_n 0, 1) := by decide +kernel
theorem l_206_89 : ldcv 206 89 = some (vR (8, 19)) := rfl
theorem i_206_52 : ins 206 52 = some (.ldc 89, 2) := by decide +kernel
theorem i_206_54 : ins 206 54 = some (.invokevirtual 66, 3) := by decide +kernel
theorem i_206_57 : ins 206 57 = some (.ifCond .eq 7, 3) := by decide +kernel
theorem t_57_64 : tg 57 (7) = some 64 := by decide +kernel
theorem i_206_60 : ins 206 60 = some (.iconst 5, 1) := by decide +kernel
theorem i_206_61 : ins 206 61 = some (.goto 4, 3) := by decide +kernel
theorem t_61_65 : tg 61 (4) = some 65 := by decide +kernel
theorem i_206_64 : ins 206 64 = some (.iconst (-1), 1) := by decide +kernel
theorem i_206_65 : ins 206 65 = some (.ireturn, 1) := by decide +kernel
theorem i_207_0 : ins 207 0 = some (.aload_n 0, 1) := by decide +kernel
theorem v_207_45 : inv 207 45 = some (204, 0, 1, 11534502) := by decide +kernel
theorem i_207_1 : ins 207 1 = some (.invokevirtual 45, 3) := by decide +kernel
theorem i_207_4 : ins 207 4 = some (.pop, 1) := by decide +kernel
theorem i_207_5 : ins 207 5 = some (.iconst 0, 1) := by decide +kernel
theorem i_207_6 : ins 207 6 = some (.istore_n 2, 1) := by decide +kernel
theorem i_207_7 : ins 207 7 = some (.aload_n 0, 1) := by decide +kernel
theorem f_207_35 : fld 207 35 = some (11534502, 1, 0) := by decide +kernel
theorem i_207_8 : ins 207 8 = some (.getfield 35, 3) := by decide +kernel
theorem i_207_11 : ins 207 11 = some (.iload_n 2, 1) := by decide +kernel
theorem i_207_12 : ins 207 12 = some (.iadd, 1) := by decide +kernel
theorem i_207_13 : ins 207 13 = some (.aload_n 0, 1) := by decide +kernel
theorem f_207_3 : fld 207 3 = some (11534502, 6, 2) := by decide +kernel
theorem i_207_14 : ins 207 14 = some (.getfield 3, 3) := by decide +kernel
theorem f_207_38 : fld 207 38 = some (1048582, 12, 0) := by decide +kernel
theorem i_207_17 : ins 207 17 = some (.getfield 38, 3) := by decide +kernel
theorem i_207_20 : ins 207 20 = some (.if_icmp .ge 47, 3) := by decide +kernel
theorem t_20_67 : tg 20 (47) = some 67 := by decide +kernel
theorem i_207_23 : ins 207 23 = some (.aload_n 0, 1) := by decide +kernel
theorem i_207_24 : ins 207 24 = some (.getfield 3, 3) := by decide +kernel
theorem f_207_41 : fld 207 41 = some (1048582, 11, 2) := by decide +kernel
theorem i_207_27 : ins 207 27 = some (.getfield 41, 3) := by decide +kernel
theorem i_207_30 : ins 207 30 = some (.aload_n 0, 1) := by decide +kernel
theorem i_207_31 : ins 207 31 = some (.getfield 35, 3) := by decide +kernel
theorem i_207_34 : ins 207 34 = some (.iload_n 2, 1) := by decide +kernel
theorem i_207_35 : ins 207 35 = some (.iadd, 1) := by decide +kernel
theorem i_207_36 : ins 207 36 = some (.baload, 1) := by decide +kernel
theorem i_207_37 : ins 207 37 = some (.bipush 97, 2) := by decide +kernel
theorem i_207_39 : ins 207 39 = some (.if_icmp .lt 28, 3) := by decide +kernel
theorem t_39_67 : tg 39 (28) = some 67 := by decide +kernel
theorem i_207_42 : ins 207 42 = some (.aload_n 0, 1) := by decide +kernel
theorem i_207_43 : ins 207 43 = some (.getfield 3, 3) := by decide +kernel
theorem i_207_46 : ins 207 46 = some (.getfield 41, 3) := by decide +kernel
theorem i_207_49 : ins 207 49 = some (.aload_n 0, 1) := by decide +kernel
theorem i_207_50 : ins 207 50 = some (.getfield 35, 3) := by decide +kernel
theorem i_207_53 : ins 207 53 = some (.iload_n 2, 1) := by decide +kernel
theorem i_207_54 : ins 207 54 = some (.iadd, 1) := by decide +kernel
theorem i_207_55 : ins 207 55 = some (.baload, 1) := by decide +kernel
theorem i_207_56 : ins 207 56 = some (.bipush 122, 2) := by decide +kernel
theorem i_207_58 : ins 207 58 = some (.if_icmp .gt 9, 3) := by decide +kernel
theorem t_58_67 : tg 58 (9) = some 67 := by decide +kernel
theorem i_207_61 : ins 207 61 = some (.iinc 2 1, 3) := by decide +kernel
theorem i_207_64 : ins 207 64 = some (.goto (-57), 3) := by decide +kernel
theorem t_64_7 : tg 64 (-57) = some 7 := by decide +kernel
theorem i_207_67 : ins 207 67 = some (.iload_n 2, 1) := by decide +kernel
theorem i_207_68 : ins 207 68 = some (.aload_n 1, 1) := by decide +kernel
theorem v_207_57 : inv 207 57 = some (253, 0, 1, 8) := by decide +kernel
theorem i_207_69 : ins 207 69 = some (.invokevirtual 57, 3) := by decide +kernel
theorem i_207_72 : ins 207 72 = some (.if_icmp .ne 7, 3) := by decide +kernel
theorem i_207_75 : ins 207 75 = some (.iconst 1, 1) := by decide +kernel
theorem i_207_76 : ins 207 76 = some (.goto 4, 3) := by decide +kernel
theorem i_207_79 : ins 207 79 = some (.iconst 0, 1) := by decide +kernel
theorem i_207_80 : ins 207 80 = some (.istore_n 3, 1) := by decide +kernel
theorem i_207_81 : ins 207 81 = some (.iconst 0, 1) := by decide +kernel
theorem i_207_82 : ins 207 82 = some (.istore 4, 2) := by decide +kernel
theorem i_207_84 : ins 207 84 = some (.iload_n 3, 1) := by decide +kernel
theorem i_207_85 : ins 207 85 = some (.ifCond .eq 45, 3) := by decide +kernel
theorem t_85_130 : tg 85 (45) = some 130 := by decide +kernel
theorem i_207_88 : ins 207 88 = some (.iload 4, 2) := by decide +kernel
theorem i_207_90 : ins 207 90 = some (.iload_n 2, 1) := by decide +kernel
theorem i_207_91 : ins 207 91 = some (.if_icmp .ge 39, 3) := by decide +kernel
theorem t_91_130 : tg 91 (39) = some 130 := by decide +kernel
theorem i_207_94 : ins 207 94 = some (.aload_n 1, 1) := by decide +kernel
theorem i_207_95 : ins 207 95 = some (.iload 4, 2) := by decide +kernel
theorem v_207_62 : inv 207 62 = some (255, 1, 1, 8) := by decide +kernel
theorem i_207_97 : ins 207 97 = some (.invokevirtual 62, 3) := by decide +kernel
theorem i_207_100 : ins 207 100 = some (.aload_n 0, 1) := by decide +kernel
theorem i_207_101 : ins 207 101 = some (.getfield 3, 3) := by decide +kernel
theorem i_207_104 : ins 207 104 = some (.getfield 41, 3) := by decide +kernel
theorem i_207_107 : ins 207 107 = some (.aload_n 0, 1) := by decide +kernel
theorem i_207_108 : ins 207 108 = some (.getfield 35, 3) := by decide +kernel
theorem i_207_111 : ins 207 111 = some (.iload 4, 2) := by decide +kernel
theorem i_207_113 : ins 207 113 = some (.iadd, 1) := by decide +kernel
theorem i_207_114 : ins 207 114 = some (.baload, 1) := by decide +kernel
theorem i_207_115 : ins 207 115 = some (.if_icmp .ne 7, 3) := by decide +kernel
theorem t_115_122 : tg 115 (7) = some 122 := by decide +kernel
theorem i_207_118 : ins 207 118 = some (.iconst 1, 1) := by decide +kernel
theorem i_207_119 : ins 207 119 = some (.goto 4, 3) := by decide +kernel
theorem t_119_123 : tg 119 (4) = some 123 := by decide +kernel
theorem i_207_122 : ins 207 122 = some (.iconst 0, 1) := by decide +kernel
theorem i_207_123 : ins 207 123 = some (.istore_n 3, 1) := by decide +kernel
theorem i_207_124 : ins 207 124 = some (.iinc 4 1, 3) := by decide +kernel
theorem i_207_127 : ins 207 127 = some (.goto (-43), 3) := by decide +kernel
theorem t_127_84 : tg 127 (-43) = some 84 := by decide +kernel
theorem i_207_130 : ins 207 130 = some (.iload_n 3, 1) := by decide +kernel
theorem r_207 : mret 207 = 2 := by decide +kernel
theorem i_207_131 : ins 207 131 = some (.ireturn, 1) := by decide +kernel
theorem i_208_0 : ins 208 0 = some (.iload_n 1, 1) := by decide +kernel
theorem i_208_1 : ins 208 1 = some (.ifCond .eq 4, 3) := by decide +kernel
theorem t_1_5 : tg 1 (4) = some 5 := by decide +kernel
theorem i_208_4 : ins 208 4 = some (.return_, 1) := by decide +kernel
theorem r_208 : mret 208 = 0 := by decide +kernel
theorem i_208_5 : ins 208 5 = some (.aload_n 0, 1) := by decide +kernel
theorem f_208_3 : fld 208 3 = some (11534502, 6, 2) := by decide +kernel
theorem i_208_6 : ins 208 6 = some (.getfield 3, 3) := by decide +kernel
theorem f_208_22 : fld 208 22 = some (1048582, 10, 2) := by decide +kernel
theorem i_208_9 : ins 208 9 = some (.getfield 22, 3) := by decide +kernel
theorem i_208_12 : ins 208 12 = some (.iload_n 2, 1) := by decide +kernel
theorem f_208_26 : fld 208 26 = some (2097174, 6, 0) := by decide +kernel
theorem o_208_2097174_6 : putok 208 2097174 6 = true := by decide +kernel
theorem i_208_13 : ins 208 13 = some (.putfield 26, 3) := by decide +kernel
theorem i_208_16 : ins 208 16 = some (.aload_n 0, 1) := by decide +kernel
theorem i_208_17 : ins 208 17 = some (.getfield 3, 3) := by decide +kernel
theorem i_208_20 : ins 208 20 = some (.getfield 22, 3) := by decide +kernel
theorem i_208_23 : ins 208 23 = some (.iload_n 3, 1) := by decide +kernel
theorem f_208_32 : fld 208 32 = some (2097174, 7, 0) := by decide +kernel
theorem o_208_2097174_7 : putok 208 2097174 7 = true := by decide +kernel
theorem i_208_24 : ins 208 24 = some (.putfield 32, 3) := by decide +kernel
theorem i_208_27 : ins 208 27 = some (.aload_n 0, 1) := by decide +kernel
theorem i_208_28 : ins 208 28 = some (.getfield 3, 3) := by decide +kernel
theorem i_208_31 : ins 208 31 = some (.getfield 22, 3) := by decide +kernel
theorem i_208_34 : ins 208 34 = some (.athrow, 1) := by decide +kernel
theorem h_208_34 : hdl 208 34 = none := by decide +kernel
theorem i_209_0 : ins 209 0 = some (.aload_n 0, 1) := by decide +kernel
theorem l_209_94 : ldcv 209 94 = some (vR (8, 20)) := rfl
theorem i_209_1 : ins 209 1 = some (.ldc 94, 2) := by decide +kernel
theorem v_209_135 : inv 209 135 = some (210, 1, 1, 11534502) := by decide +kernel
theorem i_209_3 : ins 209 3 = some (.invokevirtual 135, 3) := by decide +kernel
theorem i_209_6 : ins 209 6 = some (.ifCond .eq 36, 3) := by decide +kernel
theorem t_6_42 : tg 6 (36) = some 42 := by decide +kernel
theorem i_209_9 : ins 209 9 = some (.aload_n 0, 1) := by decide +kernel
theorem i_209_10 : ins 209 10 = some (.iconst 5, 1) := by decide +kernel
theorem v_209_120 : inv 209 120 = some (211, 1, 1, 11534502) := by decide +kernel
theorem i_209_11 : ins 209 11 = some (.invokevirtual 120, 3) := by decide +kernel
theorem i_209_14 : ins 209 14 = some (.istore_n 1, 1) := by decide +kernel
theorem i_209_15 : ins 209 15 = some (.aload_n 0, 1) := by decide +kernel
theorem f_209_18 : fld 209 18 = some (11534502, 0, 2) := by decide +kernel
theorem i_209_16 : ins 209 16 = some (.getfield 18, 3) := by decide +kernel
theorem i_209_19 : ins 209 19 = some (.iconst 0, 1) := by decide +kernel
theorem i_209_20 : ins 209 20 = some (.iload_n 1, 1) := by decide +kernel
theorem i_209_21 : ins 209 21 = some (.aload_n 0, 1) := by decide +kernel
theorem l_209_138 : ldcv 209 138 = some (vR (8, 23)) := rfl
theorem i_209_22 : ins 209 22 = some (.ldc 138, 2) := by decide +kernel
theorem i_209_24 : ins 209 24 = some (.invokevirtual 135, 3) := by decide +kernel
theorem i_209_27 : ins 209 27 = some (.ifCond .eq 10, 3) := by decide +kernel
theorem t_27_37 : tg 27 (10) = some 37 := by decide +kernel
theorem i_209_30 : ins 209 30 = some (.aload_n 0, 1) := by decide +kernel
theorem v_209_140 : inv 209 140 = some (213, 0, 1, 11534502) := by decide +kernel
theorem i_209_31 : ins 209 31 = some (.invokevirtual 140, 3) := by decide +kernel
theorem i_209_34 : ins 209 34 = some (.goto 4, 3) := by decide +kernel
theorem i_209_37 : ins 209 37 = some (.aconst_null, 1) := by decide +kernel
theorem v_209_144 : inv 209 144 = some (67, 3, 1, 3145766) := by decide +kernel
theorem i_209_38 : ins 209 38 = some (.invokevirtual 144, 3) := by decide +kernel
theorem i_209_41 : ins 209 41 = some (.return_, 1) := by decide +kernel
theorem r_209 : mret 209 = 0 := by decide +kernel
theorem i_209_42 : ins 209 42 = some (.aload_n 0, 1) := by decide +kernel
theorem l_209_96 : ldcv 209 96 = some (vR (8, 21)) := rfl
theorem i_209_43 : ins 209 43 = some (.ldc 96, 2) := by decide +kernel
theorem i_209_45 : ins 209 45 = some (.invokevirtual 135, 3) := by decide +kernel
theorem i_209_48 : ins 209 48 = some (.ifCond .eq 7, 3) := by decide +kernel
theorem i_209_51 : ins 209 51 = some (.iconst 1, 1) := by decide +kernel
theorem i_209_52 : ins 209 52 = some (.goto 4, 3) := by decide +kernel
theorem i_209_55 : ins 209 55 = some (.iconst 2, 1) := by decide +kernel
theorem i_209_56 : ins 209 56 = some (.istore_n 1, 1) := by decide +kernel
theorem i_209_57 : ins 209 57 = some (.iload_n 1, 1) := by decide +kernel
theorem i_209_58 : ins 209 58 = some (.iconst 2, 1) := by decide +kernel
theorem i_209_59 : ins 209 59 = some (.if_icmp .ne 13, 3) := by decide +kernel
theorem t_59_72 : tg 59 (13) = some 72 := by decide +kernel
theorem i_209_62 : ins 209 62 = some (.aload_n 0, 1) := by decide +kernel
theorem i_209_63 : ins 209 63 = some (.dup, 1) := by decide +kernel
theorem f_209_35 : fld 209 35 = some (11534502, 1, 0) := by decide +kernel
theorem i_209_64 : ins 209 64 = some (.getfield 35, 3) := by decide +kernel
theorem i_209_67 : ins 209 67 = some (.iconst 5, 1) := by decide +kernel
theorem i_209_68 : ins 209 68 = some (.iadd, 1) := by decide +kernel
theorem o_209_11534502_1 : putok 209 11534502 1 = true := by decide +kernel
theorem i_209_69 : ins 209 69 = some (.putfield 35, 3) := by decide +kernel
theorem i_209_72 : ins 209 72 = some (.aload_n 0, 1) := by decide +kernel
theorem i_209_73 : ins 209 73 = some (.aload_n 0, 1) := by decide +kernel
theorem i_209_74 : ins 209 74 = some (.ldc 138, 2) := by decide +kernel
theorem i_209_76 : ins 209 76 = some (.invokevirtual 135, 3) := by decide +kernel
theorem i_209_79 : ins 209 79 = some (.iconst 0, 1) := by decide +kernel
theorem i_209_80 : ins 209 80 = some (.aload_n 0, 1) := by decide +kernel
theorem i_209_81 : ins 209 81 = some (.getfield 35, 3) := by decide +kernel
theorem v_209_53 : inv 209 53 = some (208, 3, 1, 11534502) := by decide +kernel
theorem i_209_84 : ins 209 84 = some (.invokevirtual 53, 3) := by decide +kernel
theorem i_209_87 : ins 209 87 = some (.aload_n 0, 1) := by decide +kernel
theorem i_209_88 : ins 209 88 = some (.getfield 18, 3) := by decide +kernel
theorem i_209_91 : ins 209 91 = some (.iload_n 1, 1) := by decide +kernel
theorem i_209_92 : ins 209 92 = some (.iconst 0, 1) := by decide +kernel
theorem i_209_93 : ins 209 93 = some (.aload_n 0, 1) := by decide +kernel
theorem i_209_94 : ins 209 94 = some (.invokevirtual 140, 3) := by decide +kernel
theorem i_209_97 : ins 209 97 = some (.invokevirtual 144, 3) := by decide +kernel
theorem i_209_100 : ins 209 100 = some (.return_, 1) := by decide +kernel
theorem i_210_0 : ins 210 0 = some (.aload_n 0, 1) := by decide +kernel
theorem i_210_1 : ins 210 1 = some (.aload_n 1, 1) := by decide +kernel
theorem v_210_66 : inv 210 66 = some (207, 1, 1, 11534502) := by decide +kernel
theorem i_210_2 : ins 210 2 = some (.invokevirtual 66, 3) := by decide +kernel
theorem i_210_5 : ins 210 5 = some (.ifCond .ne 5, 3) := by decide +kernel
theorem t_5_10 : tg 5 (5) = some 10 := by decide +kernel
theorem i_210_8 : ins 210 8 = some (.iconst 0, 1) := by decide +kernel
theorem r_210 : mret 210 = 2 := by decide +kernel
theorem i_210_9 : ins 210 9 = some (.ireturn, 1) := by decide +kernel
theorem i_210_10 : ins 210 10 = some (.aload_n 0, 1) := by decide +kernel
theorem i_210_11 : ins 210 11 = some (.dup, 1) := by decide +kernel
theorem f_210_35 : fld 210 35 = some (11534502, 1, 0) := by decide +kernel
theorem i_210_12 : ins 210 12 = some (.getfield 35, 3) := by decide +kernel
theorem i_210_15 : ins 210 15 = some (.aload_n 1, 1) := by decide +kernel
theorem v_210_57 : inv 210 57 = some (253, 0, 1, 8) := by decide +kernel
theorem i_210_16 : ins 210 16 = some (.invokevirtual 57, 3) := by decide +kernel
theorem i_210_19 : ins 210 19 = some (.iadd, 1) := by decide +kernel
theorem o_210_11534502_1 : putok 210 11534502 1 = true := by decide +kernel
theorem i_210_20 : ins 210 20 = some (.putfield 35, 3) := by decide +kernel
theorem i_210_23 : ins 210 23 = some (.iconst 1, 1) := by decide +kernel
theorem i_210_24 : ins 210 24 = some (.ireturn, 1) := by decide +kernel
theorem i_211_0 : ins 211 0 = some (.aload_n 0, 1) := by decide +kernel
theorem i_211_1 : ins 211 1 = some (.aload_n 0, 1) := by decide +kernel
theorem i_211_2 : ins 211 2 = some (.aload_n 0, 1) := by decide +kernel
theorem v_211_45 : inv 211 45 = some (204, 0, 1, 11534502) := by decide +kernel
theorem i_211_3 : ins 211 3 = some (.invokevirtual 45, 3) := by decide +kernel
theorem v_211_70 : inv 211 70 = some (212, 1, 1, 11534502) := by decide +kernel
theorem i_211_6 : ins 211 6 = some (.invokevirtual 70, 3) := by decide +kernel
theorem i_211_9 : ins 211 9 = some (.iconst 0, 1) := by decide +kernel
theorem i_211_10 : ins 211 10 = some (.aload_n 0, 1) := by decide +kernel
theorem f_211_35 : fld 211 35 = some (11534502, 1, 0) := by decide +kernel
theorem i_211_11 : ins 211 11 = some (.getfield 35, 3) := by decide +kernel
theorem v_211_53 : inv 211 53 = some (208, 3, 1, 11534502) := by decide +kernel
theorem i_211_14 : ins 211 14 = some (.invokevirtual 53, 3) := by decide +kernel
theorem i_211_17 : ins 211 17 = some (.aload_n 0, 1) := by decide +kernel
theorem i_211_18 : ins 211 18 = some (.getfield 35, 3) := by decide +kernel
theorem i_211_21 : ins 211 21 = some (.istore_n 2, 1) := by decide +kernel
theorem i_211_22 : ins 211 22 = some (.iconst 0, 1) := by decide +kernel
theorem i_211_23 : ins 211 23 = some (.istore_n 3, 1) := by decide +kernel
theorem i_211_24 : ins 211 24 = some (.aload_n 0, 1) := by decide +kernel
theorem i_211_25 : ins 211 25 = some (.getfield 35, 3) := by decide +kernel
theorem i_211_28 : ins 211 28 = some (.aload_n 0, 1) := by decide +kernel
theorem f_211_3 : fld 211 3 = some (11534502, 6, 2) := by decide +kernel
theorem i_211_29 : ins 211 29 = some (.getfield 3, 3) := by decide +kernel
theorem f_211_38 : fld 211 38 = some (1048582, 12, 0) := by decide +kernel
theorem i_211_32 : ins 211 32 = some (.getfield 38, 3) := by decide +kernel
theorem i_211_35 : ins 211 35 = some (.if_icmp .ge 66, 3) := by decide +kernel
theorem t_35_101 : tg 35 (66) = some 101 := by decide +kernel
theorem i_211_38 : ins 211 38 = some (.aload_n 0, 1) := by decide +kernel
theorem i_211_39 : ins 211 39 = some (.aload_n 0, 1) := by decide +kernel
theorem i_211_40 : ins 211 40 = some (.getfield 3, 3) := by decide +kernel
theorem f_211_41 : fld 211 41 = some (1048582, 11, 2) := by decide +kernel
theorem i_211_43 : ins 211 43 = some (.getfield 41, 3) := by decide +kernel
theorem i_211_46 : ins 211 46 = some (.aload_n 0, 1) := by decide +kernel
theorem i_211_47 : ins 211 47 = some (.getfield 35, 3) := by decide +kernel
theorem i_211_50 : ins 211 50 = some (.baload, 1) := by decide +kernel
theorem i_211_51 : ins 211 51 = some (.invokevirtual 70, 3) := by decide +kernel
theorem i_211_54 : ins 211 54 = some (.ifCond .eq 47, 3) := by decide +kernel
theorem t_54_101 : tg 54 (47) = some 101 := by decide +kernel
theorem i_211_57 : ins 211 57 = some (.aload_n 0, 1) := by decide +kernel
theorem i_211_58 : ins 211 58 = some (.getfield 35, 3) := by decide +kernel
theorem i_211_61 : ins 211 61 = some (.iload_n 2, 1) := by decide +kernel
theorem i_211_62 : ins 211 62 = some (.isub, 1) := by decide +kernel
theorem i_211_63 : ins 211 63 = some (.iconst 5, 1) := by decide +kernel
theorem i_211_64 : ins 211 64 = some (.if_icmp .ge 24, 3) := by decide +kernel
theorem t_64_88 : tg 64 (24) = some 88 := by decide +kernel
theorem i_211_67 : ins 211 67 = some (.bipush 10, 2) := by decide +kernel
theorem i_211_69 : ins 211 69 = some (.iload_n 3, 1) := by decide +kernel
theorem i_211_70 : ins 211 70 = some (.imul, 1) := by decide +kernel
theorem i_211_71 : ins 211 71 = some (.aload_n 0, 1) := by decide +kernel
theorem i_211_72 : ins 211 72 = some (.getfield 3, 3) := by decide +kernel
theorem i_211_75 : ins 211 75 = some (.getfield 41, 3) := by decide +kernel
theorem i_211_78 : ins 211 78 = some (.aload_n 0, 1) := by decide +kernel
theorem i_211_79 : ins 211 79 = some (.getfield 35, 3) := by decide +kernel
theorem i_211_82 : ins 211 82 = some (.baload, 1) := by decide +kernel
theorem i_211_83 : ins 211 83 = some (.iadd, 1) := by decide +kernel
theorem i_211_84 : ins 211 84 = some (.bipush 48, 2) := by decide +kernel
theorem i_211_86 : ins 211 86 = some (.isub, 1) := by decide +kernel
theorem i_211_87 : ins 211 87 = some (.istore_n 3, 1) := by decide +kernel
theorem i_211_88 : ins 211 88 = some (.aload_n 0, 1) := by decide +kernel
theorem i_211_89 : ins 211 89 = some (.dup, 1) := by decide +kernel
theorem i_211_90 : ins 211 90 = some (.getfield 35, 3) := by decide +kernel
theorem i_211_93 : ins 211 93 = some (.iconst 1, 1) := by decide +kernel
theorem i_211_94 : ins 211 94 = some (.iadd, 1) := by decide +kernel
theorem o_211_11534502_1 : putok 211 11534502 1 = true := by decide +kernel
theorem i_211_95 : ins 211 95 = some (.putfield 35, 3) := by decide +kernel
theorem i_211_98 : ins 211 98 = some (.goto (-74), 3) := by decide +kernel
theorem t_98_24 : tg 98 (-74) = some 24 := by decide +kernel
theorem i_211_101 : ins 211 101 = some (.aload_n 0, 1) := by decide +kernel
theorem i_211_102 : ins 211 102 = some (.aload_n 0, 1) := by decide +kernel
theorem i_211_103 : ins 211 103 = some (.getfield 35, 3) := by decide +kernel
theorem i_211_106 : ins 211 106 = some (.iload_n 2, 1) := by decide +kernel
theorem i_211_107 : ins 211 107 = some (.isub, 1) := by decide +kernel
theorem i_211_108 : ins 211 108 = some (.iconst 5, 1) := by decide +kernel
theorem i_211_109 : ins 211 109 = some (.if_icmp .gt 12, 3) := by decide +kernel
theorem i_211_112 : ins 211 112 = some (.iload_n 3, 1) := by decide +kernel
theorem i_211_113 : ins 211 113 = some (.iload_n 1, 1) := by decide +kernel
theorem i_211_114 : ins 211 114 = some (.if_icmp .gt 7, 3) := by decide +kernel
theorem t_114_121 : tg 114 (7) = some 121 := by decide +kernel
theorem i_211_117 : ins 211 117 = some (.iconst 1, 1) := by decide +kernel
theorem i_211_118 : ins 211 118 = some (.goto 4, 3) := by decide +kernel
theorem t_118_122 : tg 118 (4) = some 122 := by decide +kernel
theorem i_211_121 : ins 211 121 = some (.iconst 0, 1) := by decide +kernel
theorem i_211_122 : ins 211 122 = some (.iconst 1, 1) := by decide +kernel
theorem i_211_123 : ins 211 123 = some (.iload_n 2, 1) := by decide +kernel
theorem i_211_124 : ins 211 124 = some (.invokevirtual 53, 3) := by decide +kernel
theorem i_211_127 : ins 211 127 = some (.iload_n 3, 1) := by decide +kernel
theorem r_211 : mret 211 = 1 := by decide +kernel
theorem i_211_128 : ins 211 128 = some (.ireturn, 1) := by decide +kernel
theorem i_212_0 : ins 212 0 = some (.iload_n 1, 1) := by decide +kernel
theorem i_212_1 : ins 212 1 = some (.bipush 48, 2) := by decide +kernel
theorem i_212_3 : ins 212 3 = some (.if_icmp .lt 13, 3) := by decide +kernel
theorem i_212_6 : ins 212 6 = some (.iload_n 1, 1) := by decide +kernel
theorem i_212_7 : ins 212 7 = some (.bipush 57, 2) := by decide +kernel
theorem i_212_9 : ins 212 9 = some (.if_icmp .gt 7, 3) := by decide +kernel
theorem i_212_12 : ins 212 12 = some (.iconst 1, 1) := by decide +kernel
theorem i_212_13 : ins 212 13 = some (.goto 4, 3) := by decide +kernel
theorem i_212_16 : ins 212 16 = some (.iconst 0, 1) := by decide +kernel
theorem r_212 : mret 212 = 2 := by decide +kernel
theorem i_212_17 : ins 212 17 = some (.ireturn, 1) := by decide +kernel
theorem i_213_0 : ins 213 0 = some (.aload_n 0, 1) := by decide +kernel
theorem v_213_148 : inv 213 148 = some (214, 0, 1, 11534502) := by decide +kernel
theorem i_213_1 : ins 213 1 = some (.invokevirtual 148, 3) := by decide +kernel
theorem i_213_4 : ins 213 4 = some (.astore_n 1, 1) := by decide +kernel
theorem i_213_5 : ins 213 5 = some (.aload_n 0, 1) := by decide +kernel
theorem l_213_151 : ldcv 213 151 = some (vR (8, 24)) := rfl
theorem i_213_6 : ins 213 6 = some (.ldc 151, 2) := by decide +kernel
theorem v_213_135 : inv 213 135 = some (210, 1, 1, 11534502) := by decide +kernel
theorem i_213_8 : ins 213 8 = some (.invokevirtual 135, 3) := by decide +kernel
theorem i_213_11 : ins 213 11 = some (.ifCond .eq 20, 3) := by decide +kernel
theorem n_213_153 : newk 213 153 = some (17826086, 3) := by decide +kernel
theorem i_213_14 : ins 213 14 = some (.new 153, 3) := by decide +kernel
theorem i_213_17 : ins 213 17 = some (.dup, 1) := by decide +kernel
theorem i_213_18 : ins 213 18 = some (.aload_n 1, 1) := by decide +kernel
theorem i_213_19 : ins 213 19 = some (.iconst 0, 1) := by decide +kernel
theorem i_213_20 : ins 213 20 = some (.aload_n 0, 1) := by decide +kernel
theorem i_213_21 : ins 213 21 = some (.invokevirtual 148, 3) := by decide +kernel
theorem v_213_155 : inv 213 155 = some (237, 3, 2, 0) := by decide +kernel
theorem i_213_24 : ins 213 24 = some (.invokespecial 155, 3) := by decide +kernel
theorem i_213_27 : ins 213 27 = some (.astore_n 1, 1) := by decide +kernel
theorem i_213_28 : ins 213 28 = some (.goto (-23), 3) := by decide +kernel
theorem t_28_5 : tg 28 (-23) = some 5 := by decide +kernel
theorem i_213_31 : ins 213 31 = some (.aload_n 1, 1) := by decide +kernel
theorem i_213_32 : ins 213 32 = some (.areturn, 1) := by decide +kernel
theorem r_213 : mret 213 = 6 := by decide +kernel
theorem i_214_0 : ins 214 0 = some (.aload_n 0, 1) := by decide +kernel
theorem v_214_158 : inv 214 158 = some (215, 0, 1, 11534502) := by decide +kernel
theorem i_214_1 : ins 214 1 = some (.invokevirtual 158, 3) := by decide +kernel
theorem i_214_4 : ins 214 4 = some (.astore_n 1, 1) := by decide +kernel
theorem i_214_5 : ins 214 5 = some (.aload_n 0, 1) := by decide +kernel
theorem l_214_161 : ldcv 214 161 = some (vR (8, 25)) := rfl
theorem i_214_6 : ins 214 6 = some (.ldc 161, 2) := by decide +kernel
theorem v_214_135 : inv 214 135 = some (210, 1, 1, 11534502) := by decide +kernel
theorem i_214_8 : ins 214 8 = some (.invokevirtual 135, 3) := by decide +kernel
theorem i_214_11 : ins 214 11 = some (.ifCond .eq 20, 3) := by decide +kernel
theorem n_214_153 : newk 214 153 = some (17826086, 3) := by decide +kernel
theorem i_214_14 : ins 214 14 = some (.new 153, 3) := by decide +kernel
theorem i_214_17 : ins 214 17 = some (.dup, 1) := by decide +kernel
theorem i_214_18 : ins 214 18 = some (.aload_n 1, 1) := by decide +kernel
theorem i_214_19 : ins 214 19 = some (.iconst 1, 1) := by decide +kernel
theorem i_214_20 : ins 214 20 = some (.aload_n 0, 1) := by decide +kernel
theorem i_214_21 : ins 214 21 = some (.invokevirtual 158, 3) := by decide +kernel
theorem v_214_155 : inv 214 155 = some (237, 3, 2, 0) := by decide +kernel
theorem i_214_24 : ins 214 24 = some (.invokespecial 155, 3) := by decide +kernel
theorem i_214_27 : ins 214 27 = some (.astore_n 1, 1) := by decide +kernel
theorem i_214_28 : ins 214 28 = some (.goto (-23), 3) := by decide +kernel
theorem i_214_31 : ins 214 31 = some (.aload_n 1, 1) := by decide +kernel
theorem i_214_32 : ins 214 32 = some (.areturn, 1) := by decide +kernel
theorem r_214 : mret 214 = 6 := by decide +kernel
theorem i_215_0 : ins 215 0 = some (.aload_n 0, 1) := by decide +kernel
theorem v_215_45 : inv 215 45 = some (204, 0, 1, 11534502) := by decide +kernel
theorem i_215_1 : ins 215 1 = some (.invokevirtual 45, 3) := by decide +kernel
theorem i_215_4 : ins 215 4 = some (.istore_n 1, 1) := by decide +kernel
theorem i_215_5 : ins 215 5 = some (.aload_n 0, 1) := by decide +kernel
theorem f_215_35 : fld 215 35 = some (11534502, 1, 0) := by decide +kernel
theorem i_215_6 : ins 215 6 = some (.getfield 35, 3) := by decide +kernel
theorem i_215_9 : ins 215 9 = some (.istore_n 2, 1) := by decide +kernel
theorem i_215_10 : ins 215 10 = some (.aload_n 0, 1) := by decide +kernel
theorem l_215_163 : ldcv 215 163 = some (vR (8, 26)) := rfl
theorem i_215_11 : ins 215 11 = some (.ldc 163, 2) := by decide +kernel
theorem v_215_66 : inv 215 66 = some (207, 1, 1, 11534502) := by decide +kernel
theorem i_215_13 : ins 215 13 = some (.invokevirtual 66, 3) := by decide +kernel
theorem i_215_16 : ins 215 16 = some (.ifCond .eq 42, 3) := by decide +kernel
theorem t_16_58 : tg 16 (42) = some 58 := by decide +kernel
theorem i_215_19 : ins 215 19 = some (.aload_n 0, 1) := by decide +kernel
theorem i_215_20 : ins 215 20 = some (.iload_n 2, 1) := by decide +kernel
theorem v_215_165 : inv 215 165 = some (216, 1, 1, 11534502) := by decide +kernel
theorem i_215_21 : ins 215 21 = some (.invokevirtual 165, 3) := by decide +kernel
theorem i_215_24 : ins 215 24 = some (.aload_n 0, 1) := by decide +kernel
theorem i_215_25 : ins 215 25 = some (.dup, 1) := by decide +kernel
theorem i_215_26 : ins 215 26 = some (.getfield 35, 3) := by decide +kernel
theorem i_215_29 : ins 215 29 = some (.iconst 3, 1) := by decide +kernel
theorem i_215_30 : ins 215 30 = some (.iadd, 1) := by decide +kernel
theorem o_215_11534502_1 : putok 215 11534502 1 = true := by decide +kernel
theorem i_215_31 : ins 215 31 = some (.putfield 35, 3) := by decide +kernel
theorem n_215_168 : newk 215 168 = some (12583110, 1) := by decide +kernel
theorem i_215_34 : ins 215 34 = some (.new 168, 3) := by decide +kernel
theorem i_215_37 : ins 215 37 = some (.dup, 1) := by decide +kernel
theorem i_215_38 : ins 215 38 = some (.aload_n 0, 1) := by decide +kernel
theorem v_215_158 : inv 215 158 = some (215, 0, 1, 11534502) := by decide +kernel
theorem i_215_39 : ins 215 39 = some (.invokevirtual 158, 3) := by decide +kernel
theorem v_215_170 : inv 215 170 = some (226, 1, 2, 0) := by decide +kernel
theorem i_215_42 : ins 215 42 = some (.invokespecial 170, 3) := by decide +kernel
theorem i_215_45 : ins 215 45 = some (.astore_n 3, 1) := by decide +kernel
theorem i_215_46 : ins 215 46 = some (.aload_n 0, 1) := by decide +kernel
theorem i_215_47 : ins 215 47 = some (.dup, 1) := by decide +kernel
theorem f_215_76 : fld 215 76 = some (11534502, 2, 0) := by decide +kernel
theorem i_215_48 : ins 215 48 = some (.getfield 76, 3) := by decide +kernel
theorem i_215_51 : ins 215 51 = some (.iconst 1, 1) := by decide +kernel
theorem i_215_52 : ins 215 52 = some (.isub, 1) := by decide +kernel
theorem o_215_11534502_2 : putok 215 11534502 2 = true := by decide +kernel
theorem i_215_53 : ins 215 53 = some (.putfield 76, 3) := by decide +kernel
theorem i_215_56 : ins 215 56 = some (.aload_n 3, 1) := by decide +kernel
theorem i_215_57 : ins 215 57 = some (.areturn, 1) := by decide +kernel
theorem r_215 : mret 215 = 6 := by decide +kernel
theorem i_215_58 : ins 215 58 = some (.iload_n 1, 1) := by decide +kernel
theorem i_215_59 : ins 215 59 = some (.bipush 91, 2) := by decide +kernel
theorem i_215_61 : ins 215 61 = some (.if_icmp .ne 41, 3) := by decide +kernel
theorem t_61_102 : tg 61 (41) = some 102 := by decide +kernel
theorem i_215_64 : ins 215 64 = some (.aload_n 0, 1) := by decide +kernel
theorem i_215_65 : ins 215 65 = some (.iload_n 2, 1) := by decide +kernel
theorem i_215_66 : ins 215 66 = some (.invokevirtual 165, 3) := by decide +kernel
theorem i_215_69 : ins 215 69 = some (.aload_n 0, 1) := by decide +kernel
theorem i_215_70 : ins 215 70 = some (.dup, 1) := by decide +kernel
theorem i_215_71 : ins 215 71 = some (.getfield 35, 3) := by decide +kernel
theorem i_215_74 : ins 215 74 = some (.iconst 1, 1) := by decide +kernel
theorem i_215_75 : ins 215 75 = some (.iadd, 1) := by decide +kernel
theorem i_215_76 : ins 215 76 = some (.putfield 35, 3) := by decide +kernel
theorem i_215_79 : ins 215 79 = some (.aload_n 0, 1) := by decide +kernel
theorem v_215_140 : inv 215 140 = some (213, 0, 1, 11534502) := by decide +kernel
theorem i_215_80 : ins 215 80 = some (.invokevirtual 140, 3) := by decide +kernel
theorem i_215_83 : ins 215 83 = some (.astore_n 3, 1) := by decide +kernel
theorem i_215_84 : ins 215 84 = some (.aload_n 0, 1) := by decide +kernel
theorem i_215_85 : ins 215 85 = some (.bipush 93, 2) := by decide +kernel
theorem v_215_173 : inv 215 173 = some (217, 1, 1, 11534502) := by decide +kernel
theorem i_215_87 : ins 215 87 = some (.invokevirtual 173, 3) := by decide +kernel
theorem i_215_90 : ins 215 90 = some (.aload_n 0, 1) := by decide +kernel
theorem i_215_91 : ins 215 91 = some (.dup, 1) := by decide +kernel
theorem i_215_92 : ins 215 92 = some (.getfield 76, 3) := by decide +kernel
theorem i_215_95 : ins 215 95 = some (.iconst 1, 1) := by decide +kernel
theorem i_215_96 : ins 215 96 = some (.isub, 1) := by decide +kernel
theorem i_215_97 : ins 215 97 = some (.putfield 76, 3) := by decide +kernel
theorem i_215_100 : ins 215 100 = some (.aload_n 3, 1) := by decide +kernel
theorem i_215_101 : ins 215 101 = some (.areturn, 1) := by decide +kernel
theorem i_215_102 : ins 215 102 = some (.aload_n 0, 1) := by decide +kernel
theorem v_215_128 : inv 215 128 = some (219, 0, 1, 11534502) := by decide +kernel
theorem i_215_103 : ins 215 103 = some (.invokevirtual 128, 3) := by decide +kernel
theorem i_215_106 : ins 215 106 = some (.astore_n 3, 1) := by decide +kernel
theorem i_215_107 : ins 215 107 = some (.aload_n 0, 1) := by decide +kernel
theorem i_215_108 : ins 215 108 = some (.invokevirtual 45, 3) := by decide +kernel
theorem i_215_111 : ins 215 111 = some (.pop, 1) := by decide +kernel
theorem i_215_112 : ins 215 112 = some (.aload_n 0, 1) := by decide +kernel
theorem i_215_113 : ins 215 113 = some (.getfield 35, 3) := by decide +kernel
theorem i_215_116 : ins 215 116 = some (.istore 4, 2) := by decide +kernel
theorem i_215_118 : ins 215 118 = some (.aload_n 0, 1) := by decide +kernel
theorem v_215_176 : inv 215 176 = some (223, 0, 1, 11534502) := by decide +kernel
theorem i_215_119 : ins 215 119 = some (.invokevirtual 176, 3) := by decide +kernel
theorem i_215_122 : ins 215 122 = some (.istore 5, 2) := by decide +kernel
theorem i_215_124 : ins 215 124 = some (.aload_n 0, 1) := by decide +kernel
theorem i_215_125 : ins 215 125 = some (.iload 4, 2) := by decide +kernel
theorem v_215_179 : inv 215 179 = some (222, 1, 1, 11534502) := by decide +kernel
theorem i_215_127 : ins 215 127 = some (.invokevirtual 179, 3) := by decide +kernel
theorem n_215_182 : newk 215 182 = some (16777494, 3) := by decide +kernel
theorem i_215_130 : ins 215 130 = some (.new 182, 3) := by decide +kernel
theorem i_215_133 : ins 215 133 = some (.dup, 1) := by decide +kernel
theorem i_215_134 : ins 215 134 = some (.aload_n 3, 1) := by decide +kernel
theorem i_215_135 : ins 215 135 = some (.iload 5, 2) := by decide +kernel
theorem i_215_137 : ins 215 137 = some (.aload_n 0, 1) := by decide +kernel
theorem i_215_138 : ins 215 138 = some (.invokevirtual 128, 3) := by decide +kernel
theorem v_215_184 : inv 215 184 = some (235, 3, 2, 0) := by decide +kernel
theorem i_215_141 : ins 215 141 = some (.invokespecial 184, 3) := by decide +kernel
theorem i_215_144 : ins 215 144 = some (.areturn, 1) := by decide +kernel
theorem i_216_0 : ins 216 0 = some (.aload_n 0, 1) := by decide +kernel
theorem i_216_1 : ins 216 1 = some (.aload_n 0, 1) := by decide +kernel
theorem f_216_76 : fld 216 76 = some (11534502, 2, 0) := by decide +kernel
theorem i_216_2 : ins 216 2 = some (.getfield 76, 3) := by decide +kernel
theorem i_216_5 : ins 216 5 = some (.bipush 10, 2) := by decide +kernel
theorem i_216_7 : ins 216 7 = some (.if_icmp .ge 7, 3) := by decide +kernel
theorem i_216_10 : ins 216 10 = some (.iconst 1, 1) := by decide +kernel
theorem i_216_11 : ins 216 11 = some (.goto 4, 3) := by decide +kernel
theorem i_216_14 : ins 216 14 = some (.iconst 0, 1) := by decide +kernel
theorem i_216_15 : ins 216 15 = some (.iconst 2, 1) := by decide +kernel
theorem i_216_16 : ins 216 16 = some (.iload_n 1, 1) := by decide +kernel
theorem v_216_53 : inv 216 53 = some (208, 3, 1, 11534502) := by decide +kernel
theorem i_216_17 : ins 216 17 = some (.invokevirtual 53, 3) := by decide +kernel
theorem i_216_20 : ins 216 20 = some (.aload_n 0, 1) := by decide +kernel
theorem i_216_21 : ins 216 21 = some (.dup, 1) := by decide +kernel
theorem i_216_22 : ins 216 22 = some (.getfield 76, 3) := by decide +kernel
theorem i_216_25 : ins 216 25 = some (.iconst 1, 1) := by decide +kernel
theorem i_216_26 : ins 216 26 = some (.iadd, 1) := by decide +kernel
theorem o_216_11534502_2 : putok 216 11534502 2 = true := by decide +kernel
theorem i_216_27 : ins 216 27 = some (.putfield 76, 3) := by decide +kernel
theorem i_216_30 : ins 216 30 = some (.return_, 1) := by decide +kernel
theorem r_216 : mret 216 = 0 := by decide +kernel
theorem i_217_0 : ins 217 0 = some (.aload_n 0, 1) := by decide +kernel
theorem i_217_1 : ins 217 1 = some (.aload_n 0, 1) := by decide +kernel
theorem i_217_2 : ins 217 2 = some (.iload_n 1, 1) := by decide +kernel
theorem v_217_49 : inv 217 49 = some (218, 1, 1, 11534502) := by decide +kernel
theorem i_217_3 : ins 217 3 = some (.invokevirtual 49, 3) := by decide +kernel
theorem i_217_6 : ins 217 6 = some (.iconst 0, 1) := by decide +kernel
theorem i_217_7 : ins 217 7 = some (.aload_n 0, 1) := by decide +kernel
theorem f_217_35 : fld 217 35 = some (11534502, 1, 0) := by decide +kernel
theorem i_217_8 : ins 217 8 = some (.getfield 35, 3) := by decide +kernel
theorem v_217_53 : inv 217 53 = some (208, 3, 1, 11534502) := by decide +kernel
theorem i_217_11 : ins 217 11 = some (.invokevirtual 53, 3) := by decide +kernel
theorem i_217_14 : ins 217 14 = some (.return_, 1) := by decide +kernel
theorem r_217 : mret 217 = 0 := by decide +kernel
theorem i_218_0 : ins 218 0 = some (.aload_n 0, 1) := by decide +kernel
theorem v_218_45 : inv 218 45 = some (204, 0, 1, 11534502) := by decide +kernel
theorem i_218_1 : ins 218 1 = some (.invokevirtual 45, 3) := by decide +kernel
theorem i_218_4 : ins 218 4 = some (.iload_n 1, 1) := by decide +kernel
theorem i_218_5 : ins 218 5 = some (.if_icmp .eq 5, 3) := by decide +kernel
theorem i_218_8 : ins 218 8 = some (.iconst 0, 1) := by decide +kernel
theorem r_218 : mret 218 = 2 := by decide +kernel
theorem i_218_9 : ins 218 9 = some (.ireturn, 1) := by decide +kernel
theorem i_218_10 : ins 218 10 = some (.aload_n 0, 1) := by decide +kernel
theorem i_218_11 : ins 218 11 = some (.dup, 1) := by decide +kernel
theorem f_218_35 : fld 218 35 = some (11534502, 1, 0) := by decide +kernel
theorem i_218_12 : ins 218 12 = some (.getfield 35, 3) := by decide +kernel
theorem i_218_15 : ins 218 15 = some (.iconst 1, 1) := by decide +kernel
theorem i_218_16 : ins 218 16 = some (.iadd, 1) := by decide +kernel
theorem o_218_11534502_1 : putok 218 11534502 1 = true := by decide +kernel
theorem i_218_17 : ins 218 17 = some (.putfield 35, 3) := by decide +kernel
theorem i_218_20 : ins 218 20 = some (.iconst 1, 1) := by decide +kernel
theorem i_218_21 : ins 218 21 = some (.ireturn, 1) := by decide +kernel
theorem i_219_0 : ins 219 0 = some (.aload_n 0, 1) := by decide +kernel
theorem v_219_187 : inv 219 187 = some (220, 0, 1, 11534502) := by decide +kernel
theorem i_219_1 : ins 219 1 = some (.invokevirtual 187, 3) := by decide +kernel
theorem i_219_4 : ins 219 4 = some (.astore_n 1, 1) := by decide +kernel
theorem i_219_5 : ins 219 5 = some (.aload_n 0, 1) := by decide +kernel
theorem v_219_45 : inv 219 45 = some (204, 0, 1, 11534502) := by decide +kernel
theorem i_219_6 : ins 219 6 = some (.invokevirtual 45, 3) := by decide +kernel
theorem i_219_9 : ins 219 9 = some (.bipush 43, 2) := by decide +kernel
theorem i_219_11 : ins 219 11 = some (.if_icmp .eq 12, 3) := by decide +kernel
theorem i_219_14 : ins 219 14 = some (.aload_n 0, 1) := by decide +kernel
theorem i_219_15 : ins 219 15 = some (.invokevirtual 45, 3) := by decide +kernel
theorem i_219_18 : ins 219 18 = some (.bipush 45, 2) := by decide +kernel
theorem i_219_20 : ins 219 20 = some (.if_icmp .ne 43, 3) := by decide +kernel
theorem t_20_63 : tg 20 (43) = some 63 := by decide +kernel
theorem i_219_23 : ins 219 23 = some (.aload_n 0, 1) := by decide +kernel
theorem f_219_3 : fld 219 3 = some (11534502, 6, 2) := by decide +kernel
theorem i_219_24 : ins 219 24 = some (.getfield 3, 3) := by decide +kernel
theorem f_219_41 : fld 219 41 = some (1048582, 11, 2) := by decide +kernel
theorem i_219_27 : ins 219 27 = some (.getfield 41, 3) := by decide +kernel
theorem i_219_30 : ins 219 30 = some (.aload_n 0, 1) := by decide +kernel
theorem f_219_35 : fld 219 35 = some (11534502, 1, 0) := by decide +kernel
theorem i_219_31 : ins 219 31 = some (.getfield 35, 3) := by decide +kernel
theorem i_219_34 : ins 219 34 = some (.baload, 1) := by decide +kernel
theorem i_219_35 : ins 219 35 = some (.istore_n 2, 1) := by decide +kernel
theorem i_219_36 : ins 219 36 = some (.aload_n 0, 1) := by decide +kernel
theorem i_219_37 : ins 219 37 = some (.dup, 1) := by decide +kernel
theorem i_219_38 : ins 219 38 = some (.getfield 35, 3) := by decide +kernel
theorem i_219_41 : ins 219 41 = some (.iconst 1, 1) := by decide +kernel
theorem i_219_42 : ins 219 42 = some (.iadd, 1) := by decide +kernel
theorem o_219_11534502_1 : putok 219 11534502 1 = true := by decide +kernel
theorem i_219_43 : ins 219 43 = some (.putfield 35, 3) := by decide +kernel
theorem n_219_190 : newk 219 190 = some (15728902, 3) := by decide +kernel
theorem i_219_46 : ins 219 46 = some (.new 190, 3) := by decide +kernel
theorem i_219_49 : ins 219 49 = some (.dup, 1) := by decide +kernel
theorem i_219_50 : ins 219 50 = some (.aload_n 1, 1) := by decide +kernel
theorem i_219_51 : ins 219 51 = some (.iload_n 2, 1) := by decide +kernel
theorem i_219_52 : ins 219 52 = some (.aload_n 0, 1) := by decide +kernel
theorem i_219_53 : ins 219 53 = some (.invokevirtual 187, 3) := by decide +kernel
theorem v_219_192 : inv 219 192 = some (233, 3, 2, 0) := by decide +kernel
theorem i_219_56 : ins 219 56 = some (.invokespecial 192, 3) := by decide +kernel
theorem i_219_59 : ins 219 59 = some (.astore_n 1, 1) := by decide +kernel
theorem i_219_60 : ins 219 60 = some (.goto (-55), 3) := by decide +kernel
theorem t_60_5 : tg 60 (-55) = some 5 := by decide +kernel
theorem i_219_63 : ins 219 63 = some (.aload_n 1, 1) := by decide +kernel
theorem i_219_64 : ins 219 64 = some (.areturn, 1) := by decide +kernel
theorem r_219 : mret 219 = 6 := by decide +kernel
theorem i_220_0 : ins 220 0 = some (.aload_n 0, 1) := by decide +kernel
theorem v_220_193 : inv 220 193 = some (221, 0, 1, 11534502) := by decide +kernel
theorem i_220_1 : ins 220 1 = some (.invokevirtual 193, 3) := by decide +kernel
theorem i_220_4 : ins 220 4 = some (.astore_n 1, 1) := by decide +kernel
theorem i_220_5 : ins 220 5 = some (.aload_n 0, 1) := by decide +kernel
theorem i_220_6 : ins 220 6 = some (.bipush 42, 2) := by decide +kernel
theorem v_220_49 : inv 220 49 = some (218, 1, 1, 11534502) := by decide +kernel
theorem i_220_8 : ins 220 8 = some (.invokevirtual 49, 3) := by decide +kernel
theorem i_220_11 : ins 220 11 = some (.ifCond .eq 21, 3) := by decide +kernel
theorem n_220_190 : newk 220 190 = some (15728902, 3) := by decide +kernel
theorem i_220_14 : ins 220 14 = some (.new 190, 3) := by decide +kernel
theorem i_220_17 : ins 220 17 = some (.dup, 1) := by decide +kernel
theorem i_220_18 : ins 220 18 = some (.aload_n 1, 1) := by decide +kernel
theorem i_220_19 : ins 220 19 = some (.bipush 42, 2) := by decide +kernel
theorem i_220_21 : ins 220 21 = some (.aload_n 0, 1) := by decide +kernel
theorem i_220_22 : ins 220 22 = some (.invokevirtual 193, 3) := by decide +kernel
theorem v_220_192 : inv 220 192 = some (233, 3, 2, 0) := by decide +kernel
theorem i_220_25 : ins 220 25 = some (.invokespecial 192, 3) := by decide +kernel
theorem i_220_28 : ins 220 28 = some (.astore_n 1, 1) := by decide +kernel
theorem i_220_29 : ins 220 29 = some (.goto (-24), 3) := by decide +kernel
theorem t_29_5 : tg 29 (-24) = some 5 := by decide +kernel
theorem i_220_32 : ins 220 32 = some (.aload_n 1, 1) := by decide +kernel
theorem i_220_33 : ins 220 33 = some (.areturn, 1) := by decide +kernel
theorem r_220 : mret 220 = 6 := by decide +kernel
theorem i_221_0 : ins 221 0 = some (.aload_n 0, 1) := by decide +kernel
theorem v_221_45 : inv 221 45 = some (204, 0, 1, 11534502) := by decide +kernel
theorem i_221_1 : ins 221 1 = some (.invokevirtual 45, 3) := by decide +kernel
theorem i_221_4 : ins 221 4 = some (.istore_n 1, 1) := by decide +kernel
theorem i_221_5 : ins 221 5 = some (.aload_n 0, 1) := by decide +kernel
theorem f_221_35 : fld 221 35 = some (11534502, 1, 0) := by decide +kernel
theorem i_221_6 : ins 221 6 = some (.getfield 35, 3) := by decide +kernel
theorem i_221_9 : ins 221 9 = some (.istore_n 2, 1) := by decide +kernel
theorem i_221_10 : ins 221 10 = some (.aload_n 0, 1) := by decide +kernel
theorem i_221_11 : ins 221 11 = some (.iload_n 1, 1) := by decide +kernel
theorem v_221_70 : inv 221 70 = some (212, 1, 1, 11534502) := by decide +kernel
theorem i_221_12 : ins 221 12 = some (.invokevirtual 70, 3) := by decide +kernel
theorem i_221_15 : ins 221 15 = some (.ifCond .eq 25, 3) := by decide +kernel
theorem i_221_18 : ins 221 18 = some (.aload_n 0, 1) := by decide +kernel
theorem l_221_196 : ldcv 221 196 = some (vI (nI 99999)) := rfl
theorem i_221_19 : ins 221 19 = some (.ldc 196, 2) := by decide +kernel
theorem v_221_120 : inv 221 120 = some (211, 1, 1, 11534502) := by decide +kernel
theorem i_221_21 : ins 221 21 = some (.invokevirtual 120, 3) := by decide +kernel
theorem i_221_24 : ins 221 24 = some (.istore_n 3, 1) := by decide +kernel
theorem i_221_25 : ins 221 25 = some (.aload_n 0, 1) := by decide +kernel
theorem i_221_26 : ins 221 26 = some (.iload_n 2, 1) := by decide +kernel
theorem v_221_179 : inv 221 179 = some (222, 1, 1, 11534502) := by decide +kernel
theorem i_221_27 : ins 221 27 = some (.invokevirtual 179, 3) := by decide +kernel
theorem n_221_197 : newk 221 197 = some (13631718, 1) := by decide +kernel
theorem i_221_30 : ins 221 30 = some (.new 197, 3) := by decide +kernel
theorem i_221_33 : ins 221 33 = some (.dup, 1) := by decide +kernel
theorem i_221_34 : ins 221 34 = some (.iload_n 3, 1) := by decide +kernel
theorem i_221_35 : ins 221 35 = some (.i2l, 1) := by decide +kernel
theorem v_221_199 : inv 221 199 = some (229, 1, 2, 0) := by decide +kernel
theorem i_221_36 : ins 221 36 = some (.invokespecial 199, 3) := by decide +kernel
theorem i_221_39 : ins 221 39 = some (.areturn, 1) := by decide +kernel
theorem r_221 : mret 221 = 6 := by decide +kernel
theorem i_221_40 : ins 221 40 = some (.iload_n 1, 1) := by decide +kernel
theorem i_221_41 : ins 221 41 = some (.bipush 40, 2) := by decide +kernel
theorem i_221_43 : ins 221 43 = some (.if_icmp .ne 46, 3) := by decide +kernel
theorem t_43_89 : tg 43 (46) = some 89 := by decide +kernel
theorem i_221_46 : ins 221 46 = some (.aload_n 0, 1) := by decide +kernel
theorem i_221_47 : ins 221 47 = some (.iload_n 2, 1) := by decide +kernel
theorem v_221_165 : inv 221 165 = some (216, 1, 1, 11534502) := by decide +kernel
theorem i_221_48 : ins 221 48 = some (.invokevirtual 165, 3) := by decide +kernel
theorem i_221_51 : ins 221 51 = some (.aload_n 0, 1) := by decide +kernel
theorem i_221_52 : ins 221 52 = some (.iload_n 2, 1) := by decide +kernel
theorem i_221_53 : ins 221 53 = some (.invokevirtual 179, 3) := by decide +kernel
theorem i_221_56 : ins 221 56 = some (.aload_n 0, 1) := by decide +kernel
theorem i_221_57 : ins 221 57 = some (.dup, 1) := by decide +kernel
theorem i_221_58 : ins 221 58 = some (.getfield 35, 3) := by decide +kernel
theorem i_221_61 : ins 221 61 = some (.iconst 1, 1) := by decide +kernel
theorem i_221_62 : ins 221 62 = some (.iadd, 1) := by decide +kernel
theorem o_221_11534502_1 : putok 221 11534502 1 = true := by decide +kernel
theorem i_221_63 : ins 221 63 = some (.putfield 35, 3) := by decide +kernel
theorem i_221_66 : ins 221 66 = some (.aload_n 0, 1) := by decide +kernel
theorem v_221_128 : inv 221 128 = some (219, 0, 1, 11534502) := by decide +kernel
theorem i_221_67 : ins 221 67 = some (.invokevirtual 128, 3) := by decide +kernel
theorem i_221_70 : ins 221 70 = some (.astore_n 3, 1) := by decide +kernel
theorem i_221_71 : ins 221 71 = some (.aload_n 0, 1) := by decide +kernel
theorem i_221_72 : ins 221 72 = some (.bipush 41, 2) := by decide +kernel
theorem v_221_173 : inv 221 173 = some (217, 1, 1, 11534502) := by decide +kernel
theorem i_221_74 : ins 221 74 = some (.invokevirtual 173, 3) := by decide +kernel
theorem i_221_77 : ins 221 77 = some (.aload_n 0, 1) := by decide +kernel
theorem i_221_78 : ins 221 78 = some (.dup, 1) := by decide +kernel
theorem f_221_76 : fld 221 76 = some (11534502, 2, 0) := by decide +kernel
theorem i_221_79 : ins 221 79 = some (.getfield 76, 3) := by decide +kernel
theorem i_221_82 : ins 221 82 = some (.iconst 1, 1) := by decide +kernel
theorem i_221_83 : ins 221 83 = some (.isub, 1) := by decide +kernel
theorem o_221_11534502_2 : putok 221 11534502 2 = true := by decide +kernel
theorem i_221_84 : ins 221 84 = some (.putfield 76, 3) := by decide +kernel
theorem i_221_87 : ins 221 87 = some (.aload_n 3, 1) := by decide +kernel
theorem i_221_88 : ins 221 88 = some (.areturn, 1) := by decide +kernel
theorem i_221_89 : ins 221 89 = some (.iconst 0, 1) := by decide +kernel
theorem i_221_90 : ins 221 90 = some (.istore_n 3, 1) := by decide +kernel
theorem i_221_91 : ins 221 91 = some (.iload_n 3, 1) := by decide +kernel
theorem i_221_92 : ins 221 92 = some (.aload_n 0, 1) := by decide +kernel
theorem f_221_3 : fld 221 3 = some (11534502, 6, 2) := by decide +kernel
theorem i_221_93 : ins 221 93 = some (.getfield 3, 3) := by decide +kernel
theorem f_221_202 : fld 221 202 = some (1048582, 13, 2) := by decide +kernel
theorem i_221_96 : ins 221 96 = some (.getfield 202, 3) := by decide +kernel
theorem i_221_99 : ins 221 99 = some (.arraylength, 1) := by decide +kernel
theorem kl_29360341 : klen 29360341 = 13 := by decide +kernel
theorem i_221_100 : ins 221 100 = some (.if_icmp .ge 63, 3) := by decide +kernel
theorem t_100_163 : tg 100 (63) = some 163 := by decide +kernel
theorem i_221_103 : ins 221 103 = some (.aload_n 0, 1) := by decide +kernel
theorem i_221_104 : ins 221 104 = some (.aload_n 0, 1) := by decide +kernel
theorem i_221_105 : ins 221 105 = some (.getfield 3, 3) := by decide +kernel
theorem i_221_108 : ins 221 108 = some (.getfield 202, 3) := by decide +kernel
theorem i_221_111 : ins 221 111 = some (.iload_n 3, 1) := by decide +kernel
theorem i_221_112 : ins 221 112 = some (.aaload, 1) := by decide +kernel
theorem v_221_66 : inv 221 66 = some (207, 1, 1, 11534502) := by decide +kernel
theorem i_221_113 : ins 221 113 = some (.invokevirtual 66, 3) := by decide +kernel
theorem i_221_116 : ins 221 116 = some (.ifCond .ne 6, 3) := by decide +kernel
theorem t_116_122 : tg 116 (6) = some 122 := by decide +kernel
theorem i_221_119 : ins 221 119 = some (.goto 38, 3) := by decide +kernel
theorem t_119_157 : tg 119 (38) = some 157 := by decide +kernel
theorem i_221_122 : ins 221 122 = some (.aload_n 0, 1) := by decide +kernel
theorem i_221_123 : ins 221 123 = some (.iload_n 2, 1) := by decide +kernel
theorem i_221_124 : ins 221 124 = some (.invokevirtual 179, 3) := by decide +kernel
theorem i_221_127 : ins 221 127 = some (.aload_n 0, 1) := by decide +kernel
theorem i_221_128 : ins 221 128 = some (.dup, 1) := by decide +kernel
theorem i_221_129 : ins 221 129 = some (.getfield 35, 3) := by decide +kernel
theorem i_221_132 : ins 221 132 = some (.aload_n 0, 1) := by decide +kernel
theorem i_221_133 : ins 221 133 = some (.getfield 3, 3) := by decide +kernel
theorem i_221_136 : ins 221 136 = some (.getfield 202, 3) := by decide +kernel
theorem i_221_139 : ins 221 139 = some (.iload_n 3, 1) := by decide +kernel
theorem i_221_140 : ins 221 140 = some (.aaload, 1) := by decide +kernel
theorem v_221_57 : inv 221 57 = some (253, 0, 1, 8) := by decide +kernel
theorem i_221_141 : ins 221 141 = some (.invokevirtual 57, 3) := by decide +kernel
theorem i_221_144 : ins 221 144 = some (.iadd, 1) := by decide +kernel
theorem i_221_145 : ins 221 145 = some (.putfield 35, 3) := by decide +kernel
theorem n_221_205 : newk 221 205 = some (14680310, 1) := by decide +kernel
theorem i_221_148 : ins 221 148 = some (.new 205, 3) := by decide +kernel
theorem i_221_151 : ins 221 151 = some (.dup, 1) := by decide +kernel
theorem i_221_152 : ins 221 152 = some (.iload_n 3, 1) := by decide +kernel
theorem v_221_207 : inv 221 207 = some (231, 1, 2, 0) := by decide +kernel
theorem i_221_153 : ins 221 153 = some (.invokespecial 207, 3) := by decide +kernel
theorem i_221_156 : ins 221 156 = some (.areturn, 1) := by decide +kernel
theorem i_221_157 : ins 221 157 = some (.iinc 3 1, 3) := by decide +kernel
theorem i_221_160 : ins 221 160 = some (.goto (-69), 3) := by decide +kernel
theorem t_160_91 : tg 160 (-69) = some 91 := by decide +kernel
theorem i_221_163 : ins 221 163 = some (.aload_n 0, 1) := by decide +kernel
theorem i_221_164 : ins 221 164 = some (.iconst 0, 1) := by decide +kernel
theorem i_221_165 : ins 221 165 = some (.iconst 0, 1) := by decide +kernel
theorem i_221_166 : ins 221 166 = some (.iload_n 2, 1) := by decide +kernel
theorem v_221_53 : inv 221 53 = some (208, 3, 1, 11534502) := by decide +kernel
theorem i_221_167 : ins 221 167 = some (.invokevirtual 53, 3) := by decide +kernel
theorem i_221_170 : ins 221 170 = some (.aconst_null, 1) := by decide +kernel
theorem i_221_171 : ins 221 171 = some (.areturn, 1) := by decide +kernel
theorem i_222_0 : ins 222 0 = some (.aload_n 0, 1) := by decide +kernel
theorem i_222_1 : ins 222 1 = some (.aload_n 0, 1) := by decide +kernel
theorem f_222_73 : fld 222 73 = some (11534502, 3, 0) := by decide +kernel
theorem i_222_2 : ins 222 2 = some (.getfield 73, 3) := by decide +kernel
theorem i_222_5 : ins 222 5 = some (.bipush 80, 2) := by decide +kernel
theorem i_222_7 : ins 222 7 = some (.if_icmp .ge 7, 3) := by decide +kernel
theorem i_222_10 : ins 222 10 = some (.iconst 1, 1) := by decide +kernel
theorem i_222_11 : ins 222 11 = some (.goto 4, 3) := by decide +kernel
theorem i_222_14 : ins 222 14 = some (.iconst 0, 1) := by decide +kernel
theorem i_222_15 : ins 222 15 = some (.iconst 3, 1) := by decide +kernel
theorem i_222_16 : ins 222 16 = some (.iload_n 1, 1) := by decide +kernel
theorem v_222_53 : inv 222 53 = some (208, 3, 1, 11534502) := by decide +kernel
theorem i_222_17 : ins 222 17 = some (.invokevirtual 53, 3) := by decide +kernel
theorem i_222_20 : ins 222 20 = some (.aload_n 0, 1) := by decide +kernel
theorem i_222_21 : ins 222 21 = some (.dup, 1) := by decide +kernel
theorem i_222_22 : ins 222 22 = some (.getfield 73, 3) := by decide +kernel
theorem i_222_25 : ins 222 25 = some (.iconst 1, 1) := by decide +kernel
theorem i_222_26 : ins 222 26 = some (.iadd, 1) := by decide +kernel
theorem o_222_11534502_3 : putok 222 11534502 3 = true := by decide +kernel
theorem i_222_27 : ins 222 27 = some (.putfield 73, 3) := by decide +kernel
theorem i_222_30 : ins 222 30 = some (.return_, 1) := by decide +kernel
theorem r_222 : mret 222 = 0 := by decide +kernel
theorem i_223_0 : ins 223 0 = some (.aload_n 0, 1) := by decide +kernel
theorem v_223_45 : inv 223 45 = some (204, 0, 1, 11534502) := by decide +kernel
theorem i_223_1 : ins 223 1 = some (.invokevirtual 45, 3) := by decide +kernel
theorem i_223_4 : ins 223 4 = some (.istore_n 1, 1) := by decide +kernel
theorem i_223_5 : ins 223 5 = some (.aload_n 0, 1) := by decide +kernel
theorem i_223_6 : ins 223 6 = some (.iload_n 1, 1) := by decide +kernel
theorem i_223_7 : ins 223 7 = some (.bipush 60, 2) := by decide +kernel
theorem i_223_9 : ins 223 9 = some (.if_icmp .eq 15, 3) := by decide +kernel
theorem i_223_12 : ins 223 12 = some (.iload_n 1, 1) := by decide +kernel
theorem i_223_13 : ins 223 13 = some (.bipush 61, 2) := by decide +kernel
theorem i_223_15 : ins 223 15 = some (.if_icmp .eq 9, 3) := by decide +kernel
theorem i_223_18 : ins 223 18 = some (.iload_n 1, 1) := by decide +kernel
theorem i_223_19 : ins 223 19 = some (.bipush 62, 2) := by decide +kernel
theorem i_223_21 : ins 223 21 = some (.if_icmp .ne 7, 3) := by decide +kernel
theorem i_223_24 : ins 223 24 = some (.iconst 1, 1) := by decide +kernel
theorem i_223_25 : ins 223 25 = some (.goto 4, 3) := by decide +kernel
theorem i_223_28 : ins 223 28 = some (.iconst 0, 1) := by decide +kernel
theorem i_223_29 : ins 223 29 = some (.iconst 0, 1) := by decide +kernel
theorem i_223_30 : ins 223 30 = some (.aload_n 0, 1) := by decide +kernel
theorem f_223_35 : fld 223 35 = some (11534502, 1, 0) := by decide +kernel
theorem i_223_31 : ins 223 31 = some (.getfield 35, 3) := by decide +kernel
theorem v_223_53 : inv 223 53 = some (208, 3, 1, 11534502) := by decide +kernel
theorem i_223_34 : ins 223 34 = some (.invokevirtual 53, 3) := by decide +kernel
theorem i_223_37 : ins 223 37 = some (.aload_n 0, 1) := by decide +kernel
theorem i_223_38 : ins 223 38 = some (.dup, 1) := by decide +kernel
theorem i_223_39 : ins 223 39 = some (.getfield 35, 3) := by decide +kernel
theorem i_223_42 : ins 223 42 = some (.iconst 1, 1) := by decide +kernel
theorem i_223_43 : ins 223 43 = some (.iadd, 1) := by decide +kernel
theorem o_223_11534502_1 : putok 223 11534502 1 = true := by decide +kernel
theorem i_223_44 : ins 223 44 = some (.putfield 35, 3) := by decide +kernel
theorem i_223_47 : ins 223 47 = some (.iload_n 1, 1) := by decide +kernel
theorem i_223_48 : ins 223 48 = some (.bipush 61, 2) := by decide +kernel
theorem i_223_50 : ins 223 50 = some (.if_icmp .ne 5, 3) := by decide +kernel
theorem i_223_53 : ins 223 53 = some (.iconst 2, 1) := by decide +kernel
theorem r_223 : mret 223 = 1 := by decide +kernel
theorem i_223_54 : ins 223 54 = some (.ireturn, 1) := by decide +kernel
theorem i_223_55 : ins 223 55 = some (.aload_n 0, 1) := by decide +kernel
theorem i_223_56 : ins 223 56 = some (.getfield 35, 3) := by decide +kernel
theorem i_223_59 : ins 223 59 = some (.aload_n 0, 1) := by decide +kernel
theorem f_223_3 : fld 223 3 = some (11534502, 6, 2) := by decide +kernel
theorem i_223_60 : ins 223 60 = some (.getfield 3, 3) := by decide +kernel
theorem f_223_38 : fld 223 38 = some (1048582, 12, 0) := by decide +kernel
theorem i_223_63 : ins 223 63 = some (.getfield 38, 3) := by decide +kernel
theorem i_223_66 : ins 223 66 = some (.if_icmp .ge 24, 3) := by decide +kernel
theorem t_66_90 : tg 66 (24) = some 90 := by decide +kernel
theorem i_223_69 : ins 223 69 = some (.aload_n 0, 1) := by decide +kernel
theorem i_223_70 : ins 223 70 = some (.getfield 3, 3) := by decide +kernel
theorem f_223_41 : fld 223 41 = some (1048582, 11, 2) := by decide +kernel
theorem i_223_73 : ins 223 73 = some (.getfield 41, 3) := by decide +kernel
theorem i_223_76 : ins 223 76 = some (.aload_n 0, 1) := by decide +kernel
theorem i_223_77 : ins 223 77 = some (.getfield 35, 3) := by decide +kernel
theorem i_223_80 : ins 223 80 = some (.baload, 1) := by decide +kernel
theorem i_223_81 : ins 223 81 = some (.bipush 61, 2) := by decide +kernel
theorem i_223_83 : ins 223 83 = some (.if_icmp .ne 7, 3) := by decide +kernel
theorem t_83_90 : tg 83 (7) = some 90 := by decide +kernel
theorem i_223_86 : ins 223 86 = some (.iconst 1, 1) := by decide +kernel
theorem i_223_87 : ins 223 87 = some (.goto 4, 3) := by decide +kernel
theorem t_87_91 : tg 87 (4) = some 91 := by decide +kernel
theorem i_223_90 : ins 223 90 = some (.iconst 0, 1) := by decide +kernel
theorem i_223_91 : ins 223 91 = some (.istore_n 2, 1) := by decide +kernel
theorem i_223_92 : ins 223 92 = some (.iload_n 2, 1) := by decide +kernel
theorem i_223_93 : ins 223 93 = some (.ifCond .eq 13, 3) := by decide +kernel
theorem t_93_106 : tg 93 (13) = some 106 := by decide +kernel
theorem i_223_96 : ins 223 96 = some (.aload_n 0, 1) := by decide +kernel
theorem i_223_97 : ins 223 97 = some (.dup, 1) := by decide +kernel
theorem i_223_98 : ins 223 98 = some (.getfield 35, 3) := by decide +kernel
theorem i_223_101 : ins 223 101 = some (.iconst 1, 1) := by decide +kernel
theorem i_223_102 : ins 223 102 = some (.iadd, 1) := by decide +kernel
theorem i_223_103 : ins 223 103 = some (.putfield 35, 3) := by decide +kernel
theorem i_223_106 : ins 223 106 = some (.iload_n 1, 1) := by decide +kernel
theorem i_223_107 : ins 223 107 = some (.bipush 60, 2) := by decide +kernel
theorem i_223_109 : ins 223 109 = some (.if_icmp .ne 15, 3) := by decide +kernel
theorem t_109_124 : tg 109 (15) = some 124 := by decide +kernel
theorem i_223_112 : ins 223 112 = some (.iload_n 2, 1) := by decide +kernel
theorem i_223_113 : ins 223 113 = some (.ifCond .eq 7, 3) := by decide +kernel
theorem t_113_120 : tg 113 (7) = some 120 := by decide +kernel
theorem i_223_116 : ins 223 116 = some (.iconst 1, 1) := by decide +kernel
theorem i_223_117 : ins 223 117 = some (.goto 16, 3) := by decide +kernel
theorem t_117_133 : tg 117 (16) = some 133 := by decide +kernel
theorem i_223_120 : ins 223 120 = some (.iconst 0, 1) := by decide +kernel
theorem i_223_121 : ins 223 121 = some (.goto 12, 3) := by decide +kernel
theorem t_121_133 : tg 121 (12) = some 133 := by decide +kernel
theorem i_223_124 : ins 223 124 = some (.iload_n 2, 1) := by decide +kernel
theorem i_223_125 : ins 223 125 = some (.ifCond .eq 7, 3) := by decide +kernel
theorem t_125_132 : tg 125 (7) = some 132 := by decide +kernel
theorem i_223_128 : ins 223 128 = some (.iconst 3, 1) := by decide +kernel
theorem i_223_129 : ins 223 129 = some (.goto 4, 3) := by decide +kernel
theorem t_129_133 : tg 129 (4) = some 133 := by decide +kernel
theorem i_223_132 : ins 223 132 = some (.iconst 4, 1) := by decide +kernel
theorem i_223_133 : ins 223 133 = some (.ireturn, 1) := by decide +kernel
theorem i_224_0 : ins 224 0 = some (.aload_n 0, 1) := by decide +kernel
theorem i_224_1 : ins 224 1 = some (.aload_n 0, 1) := by decide +kernel
theorem f_224_110 : fld 224 110 = some (11534502, 4, 0) := by decide +kernel
theorem i_224_2 : ins 224 2 = some (.getfield 110, 3) := by decide +kernel
theorem i_224_5 : ins 224 5 = some (.iload_n 1, 1) := by decide +kernel
theorem i_224_6 : ins 224 6 = some (.ishr, 1) := by decide +kernel
theorem i_224_7 : ins 224 7 = some (.iconst 1, 1) := by decide +kernel
theorem i_224_8 : ins 224 8 = some (.iand, 1) := by decide +kernel
theorem i_224_9 : ins 224 9 = some (.ifCond .ne 7, 3) := by decide +kernel
theorem i_224_12 : ins 224 12 = some (.iconst 1, 1) := by decide +kernel
theorem i_224_13 : ins 224 13 = some (.goto 4, 3) := by decide +kernel
theorem i_224_16 : ins 224 16 = some (.iconst 0, 1) := by decide +kernel
theorem i_224_17 : ins 224 17 = some (.iconst 5, 1) := by decide +kernel
theorem i_224_18 : ins 224 18 = some (.iload_n 2, 1) := by decide +kernel
theorem v_224_53 : inv 224 53 = some (208, 3, 1, 11534502) := by decide +kernel
theorem i_224_19 : ins 224 19 = some (.invokevirtual 53, 3) := by decide +kernel
theorem i_224_22 : ins 224 22 = some (.aload_n 0, 1) := by decide +kernel
theorem i_224_23 : ins 224 23 = some (.dup, 1) := by decide +kernel
theorem i_224_24 : ins 224 24 = some (.getfield 110, 3) := by decide +kernel
theorem i_224_27 : ins 224 27 = some (.iconst 1, 1) := by decide +kernel
theorem i_224_28 : ins 224 28 = some (.iload_n 1, 1) := by decide +kernel
theorem i_224_29 : ins 224 29 = some (.ishl, 1) := by decide +kernel
theorem i_224_30 : ins 224 30 = some (.ior, 1) := by decide +kernel
theorem o_224_11534502_4 : putok 224 11534502 4 = true := by decide +kernel
theorem i_224_31 : ins 224 31 = some (.putfield 110, 3) := by decide +kernel
theorem i_224_34 : ins 224 34 = some (.aload_n 0, 1) := by decide +kernel
theorem i_224_35 : ins 224 35 = some (.dup, 1) := by decide +kernel
theorem f_224_35 : fld 224 35 = some (11534502, 1, 0) := by decide +kernel
theorem i_224_36 : ins 224 36 = some (.getfield 35, 3) := by decide +kernel
theorem i_224_39 : ins 224 39 = some (.iload_n 1, 1) := by decide +kernel
theorem i_224_40 : ins 224 40 = some (.iconst 4, 1) := by decide +kernel
theorem i_224_41 : ins 224 41 = some (.if_icmp .ge 18, 3) := by decide +kernel
theorem i_224_44 : ins 224 44 = some (.aload_n 0, 1) := by decide +kernel
theorem f_224_3 : fld 224 3 = some (11534502, 6, 2) := by decide +kernel
theorem i_224_45 : ins 224 45 = some (.getfield 3, 3) := by decide +kernel
theorem f_224_83 : fld 224 83 = some (1048582, 14, 2) := by decide +kernel
theorem i_224_48 : ins 224 48 = some (.getfield 83, 3) := by decide +kernel
theorem i_224_51 : ins 224 51 = some (.iload_n 1, 1) := by decide +kernel
theorem i_224_52 : ins 224 52 = some (.aaload, 1) := by decide +kernel
theorem v_224_57 : inv 224 57 = some (253, 0, 1, 8) := by decide +kernel
theorem i_224_53 : ins 224 53 = some (.invokevirtual 57, 3) := by decide +kernel
theorem i_224_56 : ins 224 56 = some (.goto 4, 3) := by decide +kernel
theorem t_56_60 : tg 56 (4) = some 60 := by decide +kernel
theorem i_224_59 : ins 224 59 = some (.iconst 4, 1) := by decide +kernel
theorem i_224_60 : ins 224 60 = some (.iadd, 1) := by decide +kernel
theorem o_224_11534502_1 : putok 224 11534502 1 = true := by decide +kernel
theorem i_224_61 : ins 224 61 = some (.putfield 35, 3) := by decide +kernel
theorem i_224_64 : ins 224 64 = some (.iload_n 1, 1) := by decide +kernel
theorem i_224_65 : ins 224 65 = some (.iconst 4, 1) := by decide +kernel
theorem i_224_66 : ins 224 66 = some (.if_icmp .ge 24, 3) := by decide +kernel
theorem i_224_69 : ins 224 69 = some (.aload_n 0, 1) := by decide +kernel
theorem f_224_18 : fld 224 18 = some (11534502, 0, 2) := by decide +kernel
theorem i_224_70 : ins 224 70 = some (.getfield 18, 3) := by decide +kernel
theorem f_224_113 : fld 224 113 = some (3145766, 3, 2) := by decide +kernel
theorem i_224_73 : ins 224 73 = some (.getfield 113, 3) := by decide +kernel
theorem i_224_76 : ins 224 76 = some (.iload_n 1, 1) := by decide +kernel
theorem i_224_77 : ins 224 77 = some (.aload_n 0, 1) := by decide +kernel
theorem g_224_117 : stat 224 117 = some (vR (11, 0)) := rfl
theorem i_224_78 : ins 224 78 = some (.getstatic 117, 3) := by decide +kernel
theorem i_224_81 : ins 224 81 = some (.iload_n 1, 1) := by decide +kernel
theorem i_224_82 : ins 224 82 = some (.iaload, 1) := by decide +kernel
theorem v_224_120 : inv 224 120 = some (211, 1, 1, 11534502) := by decide +kernel
theorem i_224_83 : ins 224 83 = some (.invokevirtual 120, 3) := by decide +kernel
theorem i_224_86 : ins 224 86 = some (.iastore, 1) := by decide +kernel
theorem i_224_87 : ins 224 87 = some (.goto 30, 3) := by decide +kernel
theorem t_87_117 : tg 87 (30) = some 117 := by decide +kernel
theorem i_224_90 : ins 224 90 = some (.iload_n 1, 1) := by decide +kernel
theorem i_224_91 : ins 224 91 = some (.iconst 4, 1) := by decide +kernel
theorem i_224_92 : ins 224 92 = some (.if_icmp .ne 14, 3) := by decide +kernel
theorem t_92_106 : tg 92 (14) = some 106 := by decide +kernel
theorem i_224_95 : ins 224 95 = some (.aload_n 0, 1) := by decide +kernel
theorem i_224_96 : ins 224 96 = some (.getfield 18, 3) := by decide +kernel
theorem i_224_99 : ins 224 99 = some (.iconst 1, 1) := by decide +kernel
theorem f_224_124 : fld 224 124 = some (3145766, 6, 5) := by decide +kernel
theorem o_224_3145766_6 : putok 224 3145766 6 = true := by decide +kernel
theorem i_224_100 : ins 224 100 = some (.putfield 124, 3) := by decide +kernel
theorem i_224_103 : ins 224 103 = some (.goto 14, 3) := by decide +kernel
theorem t_103_117 : tg 103 (14) = some 117 := by decide +kernel
theorem i_224_106 : ins 224 106 = some (.aload_n 0, 1) := by decide +kernel
theorem i_224_107 : ins 224 107 = some (.getfield 18, 3) := by decide +kernel
theorem i_224_110 : ins 224 110 = some (.aload_n 0, 1) := by decide +kernel
theorem v_224_128 : inv 224 128 = some (219, 0, 1, 11534502) := by decide +kernel
theorem i_224_111 : ins 224 111 = some (.invokevirtual 128, 3) := by decide +kernel
theorem f_224_132 : fld 224 132 = some (3145766, 7, 2) := by decide +kernel
theorem o_224_3145766_7 : putok 224 3145766 7 = true := by decide +kernel
theorem i_224_114 : ins 224 114 = some (.putfield 132, 3) := by decide +kernel
theorem i_224_117 : ins 224 117 = some (.return_, 1) := by decide +kernel
theorem r_224 : mret 224 = 0 := by decide +kernel
theorem i_225_0 : ins 225 0 = some (.aload_n 0, 1) := by decide +kernel
theorem v_225_1 : inv 225 1 = some (0, 0, 4, 0) := by decide +kernel
theorem i_225_1 : ins 225 1 = some (.invokespecial 1, 3) := by decide +kernel
theorem i_225_4 : ins 225 4 = some (.return_, 1) := by decide +kernel
theorem r_225 : mret 225 = 0 := by decide +kernel
theorem i_226_0 : ins 226 0 = some (.aload_n 0, 1) := by decide +kernel
theorem v_226_1 : inv 226 1 = some (225, 0, 2, 0) := by decide +kernel
theorem i_226_1 : ins 226 1 = some (.invokespecial 1, 3) := by decide +kernel
theorem i_226_4 : ins 226 4 = some (.aload_n 0, 1) := by decide +kernel
theorem i_226_5 : ins 226 5 = some (.aload_n 1, 1) := by decide +kernel
theorem f_226_7 : fld 226 7 = some (12583110, 0, 2) := by decide +kernel
theorem o_226_12583110_0 : putok 226 12583110 0 = true := by decide +kernel
theorem i_226_6 : ins 226 6 = some (.putfield 7, 3) := by decide +kernel
theorem i_226_9 : ins 226 9 = some (.return_, 1) := by decide +kernel
theorem r_226 : mret 226 = 0 := by decide +kernel
theorem i_227_0 : ins 227 0 = some (.aload_n 0, 1) := by decide +kernel
theorem f_227_7 : fld 227 7 = some (12583110, 0, 2) := by decide +kernel
theorem i_227_1 : ins 227 1 = some (.getfield 7, 3) := by decide +kernel
theorem i_227_4 : ins 227 4 = some (.aload_n 1, 1) := by decide +kernel
theorem v_227_13 : inv 227 13 = some (1, 1, 3, 0) := by decide +kernel
theorem i_227_5 : ins 227 5 = some (.invokevirtual 13, 3) := by decide +kernel
theorem i_227_8 : ins 227 8 = some (.ifCond .ne 7, 3) := by decide +kernel
theorem i_227_11 : ins 227 11 = some (.iconst 1, 1) := by decide +kernel
theorem i_227_12 : ins 227 12 = some (.goto 4, 3) := by decide +kernel
theorem i_227_15 : ins 227 15 = some (.iconst 0, 1) := by decide +kernel
theorem r_227 : mret 227 = 2 := by decide +kernel
theorem i_227_16 : ins 227 16 = some (.ireturn, 1) := by decide +kernel
theorem i_228_0 : ins 228 0 = some (.aload_n 0, 1) := by decide +kernel
theorem v_228_1 : inv 228 1 = some (0, 0, 4, 0) := by decide +kernel
theorem i_228_1 : ins 228 1 = some (.invokespecial 1, 3) := by decide +kernel
theorem i_228_4 : ins 228 4 = some (.return_, 1) := by decide +kernel
theorem r_228 : mret 228 = 0 := by decide +kernel
theorem i_229_0 : ins 229 0 = some (.aload_n 0, 1) := by decide +kernel
theorem v_229_1 : inv 229 1 = some (228, 0, 2, 0) := by decide +kernel
theorem i_229_1 : ins 229 1 = some (.invokespecial 1, 3) := by decide +kernel
theorem i_229_4 : ins 229 4 = some (.aload_n 0, 1) := by decide +kernel
theorem i_229_5 : ins 229 5 = some (.lload_n 1, 1) := by decide +kernel
theorem f_229_7 : fld 229 7 = some (13631718, 0, 1) := by decide +kernel
theorem o_229_13631718_0 : putok 229 13631718 0 = true := by decide +kernel
theorem i_229_6 : ins 229 6 = some (.putfield 7, 3) := by decide +kernel
theorem i_229_9 : ins 229 9 = some (.return_, 1) := by decide +kernel
theorem r_229 : mret 229 = 0 := by decide +kernel
theorem i_230_0 : ins 230 0 = some (.aload_n 0, 1) := by decide +kernel
theorem f_230_7 : fld 230 7 = some (13631718, 0, 1) := by decide +kernel
theorem i_230_1 : ins 230 1 = some (.getfield 7, 3) := by decide +kernel
theorem i_230_4 : ins 230 4 = some (.lreturn, 1) := by decide +kernel
theorem r_230 : mret 230 = 5 := by decide +kernel
theorem i_231_0 : ins 231 0 = some (.aload_n 0, 1) := by decide +kernel
theorem v_231_1 : inv 231 1 = some (228, 0, 2, 0) := by decide +kernel
theorem i_231_1 : ins 231 1 = some (.invokespecial 1, 3) := by decide +kernel
theorem i_231_4 : ins 231 4 = some (.aload_n 0, 1) := by decide +kernel
theorem i_231_5 : ins 231 5 = some (.iload_n 1, 1) := by decide +kernel
theorem f_231_7 : fld 231 7 = some (14680310, 0, 0) := by decide +kernel
theorem o_231_14680310_0 : putok 231 14680310 0 = true := by decide +kernel
theorem i_231_6 : ins 231 6 = some (.putfield 7, 3) := by decide +kernel
theorem i_231_9 : ins 231 9 = some (.return_, 1) := by decide +kernel
theorem r_231 : mret 231 = 0 := by decide +kernel
theorem i_232_0 : ins 232 0 = some (.aload_n 1, 1) := by decide +kernel
theorem i_232_1 : ins 232 1 = some (.aload_n 0, 1) := by decide +kernel
theorem f_232_7 : fld 232 7 = some (14680310, 0, 0) := by decide +kernel
theorem i_232_2 : ins 232 2 = some (.getfield 7, 3) := by decide +kernel
theorem v_232_13 : inv 232 13 = some (80, 1, 1, 5242950) := by decide +kernel
theorem i_232_5 : ins 232 5 = some (.invokevirtual 13, 3) := by decide +kernel
theorem i_232_8 : ins 232 8 = some (.lreturn, 1) := by decide +kernel
theorem r_232 : mret 232 = 5 := by decide +kernel
theorem i_233_0 : ins 233 0 = some (.aload_n 0, 1) := by decide +kernel
theorem v_233_1 : inv 233 1 = some (228, 0, 2, 0) := by decide +kernel
theorem i_233_1 : ins 233 1 = some (.invokespecial 1, 3) := by decide +kernel
theorem i_233_4 : ins 233 4 = some (.aload_n 0, 1) := by decide +kernel
theorem i_233_5 : ins 233 5 = some (.aload_n 1, 1) := by decide +kernel
theorem f_233_7 : fld 233 7 = some (15728902, 0, 2) := by decide +kernel
theorem o_233_15728902_0 : putok 233 15728902 0 = true := by decide +kernel
theorem i_233_6 : ins 233 6 = some (.putfield 7, 3) := by decide +kernel
theorem i_233_9 : ins 233 9 = some (.aload_n 0, 1) := by decide +kernel
theorem i_233_10 : ins 233 10 = some (.iload_n 2, 1) := by decide +kernel
theorem f_233_13 : fld 233 13 = some (15728902, 2, 0) := by decide +kernel
theorem o_233_15728902_2 : putok 233 15728902 2 = true := by decide +kernel
theorem i_233_11 : ins 233 11 = some (.putfield 13, 3) := by decide +kernel
theorem i_233_14 : ins 233 14 = some (.aload_n 0, 1) := by decide +kernel
theorem i_233_15 : ins 233 15 = some (.aload_n 3, 1) := by decide +kernel
theorem f_233_17 : fld 233 17 = some (15728902, 1, 2) := by decide +kernel
theorem o_233_15728902_1 : putok 233 15728902 1 = true := by decide +kernel
theorem i_233_16 : ins 233 16 = some (.putfield 17, 3) := by decide +kernel
theorem i_233_19 : ins 233 19 = some (.return_, 1) := by decide +kernel
theorem r_233 : mret 233 = 0 := by decide +kernel
theorem i_234_0 : ins 234 0 = some (.aload_n 0, 1) := by decide +kernel
theorem f_234_7 : fld 234 7 = some (15728902, 0, 2) := by decide +kernel
theorem i_234_1 : ins 234 1 = some (.getfield 7, 3) := by decide +kernel
theorem i_234_4 : ins 234 4 = some (.aload_n 1, 1) := by decide +kernel
theorem v_234_20 : inv 234 20 = some (0, 1, 3, 0) := by decide +kernel
theorem i_234_5 : ins 234 5 = some (.invokevirtual 20, 3) := by decide +kernel
theorem i_234_8 : ins 234 8 = some (.lstore_n 2, 1) := by decide +kernel
theorem i_234_9 : ins 234 9 = some (.aload_n 0, 1) := by decide +kernel
theorem f_234_17 : fld 234 17 = some (15728902, 1, 2) := by decide +kernel
theorem i_234_10 : ins 234 10 = some (.getfield 17, 3) := by decide +kernel
theorem i_234_13 : ins 234 13 = some (.aload_n 1, 1) := by decide +kernel
theorem i_234_14 : ins 234 14 = some (.invokevirtual 20, 3) := by decide +kernel
theorem i_234_17 : ins 234 17 = some (.lstore 4, 2) := by decide +kernel
theorem i_234_19 : ins 234 19 = some (.aload_n 0, 1) := by decide +kernel
theorem f_234_13 : fld 234 13 = some (15728902, 2, 0) := by decide +kernel
theorem i_234_20 : ins 234 20 = some (.getfield 13, 3) := by decide +kernel
theorem i_234_23 : ins 234 23 = some (.bipush 42, 2) := by decide +kernel
theorem i_234_25 : ins 234 25 = some (.if_icmp .ne 10, 3) := by decide +kernel
theorem t_25_35 : tg 25 (10) = some 35 := by decide +kernel
theorem i_234_28 : ins 234 28 = some (.lload_n 2, 1) := by decide +kernel
theorem i_234_29 : ins 234 29 = some (.lload 4, 2) := by decide +kernel
theorem i_234_31 : ins 234 31 = some (.lmul, 1) := by decide +kernel
theorem i_234_32 : ins 234 32 = some (.goto 23, 3) := by decide +kernel
theorem i_234_35 : ins 234 35 = some (.aload_n 0, 1) := by decide +kernel
theorem i_234_36 : ins 234 36 = some (.getfield 13, 3) := by decide +kernel
theorem i_234_39 : ins 234 39 = some (.bipush 43, 2) := by decide +kernel
theorem i_234_41 : ins 234 41 = some (.if_icmp .ne 10, 3) := by decide +kernel
theorem t_41_51 : tg 41 (10) = some 51 := by decide +kernel
theorem i_234_44 : ins 234 44 = some (.lload_n 2, 1) := by decide +kernel
theorem i_234_45 : ins 234 45 = some (.lload 4, 2) := by decide +kernel
theorem i_234_47 : ins 234 47 = some (.ladd, 1) := by decide +kernel
theorem i_234_48 : ins 234 48 = some (.goto 7, 3) := by decide +kernel
theorem i_234_51 : ins 234 51 = some (.lload_n 2, 1) := by decide +kernel
theorem i_234_52 : ins 234 52 = some (.lload 4, 2) := by decide +kernel
theorem i_234_54 : ins 234 54 = some (.lsub, 1) := by decide +kernel
theorem i_234_55 : ins 234 55 = some (.lreturn, 1) := by decide +kernel
theorem r_234 : mret 234 = 5 := by decide +kernel
theorem i_235_0 : ins 235 0 = some (.aload_n 0, 1) := by decide +kernel
theorem v_235_1 : inv 235 1 = some (225, 0, 2, 0) := by decide +kernel
theorem i_235_1 : ins 235 1 = some (.invokespecial 1, 3) := by decide +kernel
theorem i_235_4 : ins 235 4 = some (.aload_n 0, 1) := by decide +kernel
theorem i_235_5 : ins 235 5 = some (.aload_n 1, 1) := by decide +kernel
theorem f_235_7 : fld 235 7 = some (16777494, 0, 2) := by decide +kernel
theorem o_235_16777494_0 : putok 235 16777494 0 = true := by decide +kernel
theorem i_235_6 : ins 235 6 = some (.putfield 7, 3) := by decide +kernel
theorem i_235_9 : ins 235 9 = some (.aload_n 0, 1) := by decide +kernel
theorem i_235_10 : ins 235 10 = some (.iload_n 2, 1) := by decide +kernel
theorem f_235_13 : fld 235 13 = some (16777494, 2, 0) := by decide +kernel
theorem o_235_16777494_2 : putok 235 16777494 2 = true := by decide +kernel
theorem i_235_11 : ins 235 11 = some (.putfield 13, 3) := by decide +kernel
theorem i_235_14 : ins 235 14 = some (.aload_n 0, 1) := by decide +kernel
theorem i_235_15 : ins 235 15 = some (.aload_n 3, 1) := by decide +kernel
theorem f_235_17 : fld 235 17 = some (16777494, 1, 2) := by decide +kernel
theorem o_235_16777494_1 : putok 235 16777494 1 = true := by decide +kernel
theorem i_235_16 : ins 235 16 = some (.putfield 17, 3) := by decide +kernel
theorem i_235_19 : ins 235 19 = some (.return_, 1) := by decide +kernel
theorem r_235 : mret 235 = 0 := by decide +kernel
theorem i_236_0 : ins 236 0 = some (.aload_n 0, 1) := by decide +kernel
theorem f_236_7 : fld 236 7 = some (16777494, 0, 2) := by decide +kernel
theorem i_236_1 : ins 236 1 = some (.getfield 7, 3) := by decide +kernel
theorem i_236_4 : ins 236 4 = some (.aload_n 1, 1) := by decide +kernel
theorem v_236_20 : inv 236 20 = some (0, 1, 3, 0) := by decide +kernel
theorem i_236_5 : ins 236 5 = some (.invokevirtual 20, 3) := by decide +kernel
theorem i_236_8 : ins 236 8 = some (.lstore_n 2, 1) := by decide +kernel
theorem i_236_9 : ins 236 9 = some (.aload_n 0, 1) := by decide +kernel
theorem f_236_17 : fld 236 17 = some (16777494, 1, 2) := by decide +kernel
theorem i_236_10 : ins 236 10 = some (.getfield 17, 3) := by decide +kernel
theorem i_236_13 : ins 236 13 = some (.aload_n 1, 1) := by decide +kernel
theorem i_236_14 : ins 236 14 = some (.invokevirtual 20, 3) := by decide +kernel
theorem i_236_17 : ins 236 17 = some (.lstore 4, 2) := by decide +kernel
theorem i_236_19 : ins 236 19 = some (.aload_n 0, 1) := by decide +kernel
theorem f_236_13 : fld 236 13 = some (16777494, 2, 0) := by decide +kernel
theorem i_236_20 : ins 236 20 = some (.getfield 13, 3) := by decide +kernel
theorem i_236_23 : ins 236 23 = some (.tableswitch 81 0 3 #[29, 42, 55, 68], 29) := by decide +kernel
theorem t_23_104 : tg 23 (81) = some 104 := by decide +kernel
theorem i_236_52 : ins 236 52 = some (.lload_n 2, 1) := by decide +kernel
theorem i_236_53 : ins 236 53 = some (.lload 4, 2) := by decide +kernel
theorem i_236_55 : ins 236 55 = some (.lcmp, 1) := by decide +kernel
theorem i_236_56 : ins 236 56 = some (.ifCond .ge 7, 3) := by decide +kernel
theorem i_236_59 : ins 236 59 = some (.iconst 1, 1) := by decide +kernel
theorem i_236_60 : ins 236 60 = some (.goto 4, 3) := by decide +kernel
theorem i_236_63 : ins 236 63 = some (.iconst 0, 1) := by decide +kernel
theorem r_236 : mret 236 = 2 := by decide +kernel
theorem i_236_64 : ins 236 64 = some (.ireturn, 1) := by decide +kernel
theorem i_236_65 : ins 236 65 = some (.lload_n 2, 1) := by decide +kernel
theorem i_236_66 : ins 236 66 = some (.lload 4, 2) := by decide +kernel
theorem t_69_76 : tg 69 (7) = some 76 := by decide +kernel
theorem i_236_68 : ins 236 68 = some (.lcmp, 1) := by decide +kernel
theorem i_236_69 : ins 236 69 = some (.ifCond .gt 7, 3) := by decide +kernel
theorem i_236_72 : ins 236 72 = some (.iconst 1, 1) := by decide +kernel
theorem i_236_73 : ins 236 73 = some (.goto 4, 3) := by decide +kernel
theorem t_73_77 : tg 73 (4) = some 77 := by decide +kernel
theorem i_236_76 : ins 236 76 = some (.iconst 0, 1) := by decide +kernel
theorem i_236_77 : ins 236 77 = some (.ireturn, 1) := by decide +kernel
theorem i_236_78 : ins 236 78 = some (.lload_n 2, 1) := by decide +kernel
theorem i_236_79 : ins 236 79 = some (.lload 4, 2) := by decide +kernel
theorem i_236_81 : ins 236 81 = some (.lcmp, 1) := by decide +kernel
theorem i_236_82 : ins 236 82 = some (.ifCond .ne 7, 3) := by decide +kernel
theorem i_236_85 : ins 236 85 = some (.iconst 1, 1) := by decide +kernel
theorem i_236_86 : ins 236 86 = some (.goto 4, 3) := by decide +kernel
theorem t_86_90 : tg 86 (4) = some 90 := by decide +kernel
theorem i_236_89 : ins 236 89 = some (.iconst 0, 1) := by decide +kernel
theorem i_236_90 : ins 236 90 = some (.ireturn, 1) := by decide +kernel
theorem i_236_91 : ins 236 91 = some (.lload_n 2, 1) := by decide +kernel
theorem i_236_92 : ins 236 92 = some (.lload 4, 2) := by decide +kernel
theorem t_95_102 : tg 95 (7) = some 102 := by decide +kernel
theorem i_236_94 : ins 236 94 = some (.lcmp, 1) := by decide +kernel
theorem i_236_95 : ins 236 95 = some (.ifCond .lt 7, 3) := by decide +kernel
theorem i_236_98 : ins 236 98 = some (.iconst 1, 1) := by decide +kernel
theorem i_236_99 : ins 236 99 = some (.goto 4, 3) := by decide +kernel
theorem t_99_103 : tg 99 (4) = some 103 := by decide +kernel
theorem i_236_102 : ins 236 102 = some (.iconst 0, 1) := by decide +kernel
theorem i_236_103 : ins 236 103 = some (.ireturn, 1) := by decide +kernel
theorem i_236_104 : ins 236 104 = some (.lload_n 2, 1) := by decide +kernel
theorem i_236_105 : ins 236 105 = some (.lload 4, 2) := by decide +kernel
theorem t_108_115 : tg 108 (7) = some 115 := by decide +kernel
theorem i_236_107 : ins 236 107 = some (.lcmp, 1) := by decide +kernel
theorem i_236_108 : ins 236 108 = some (.ifCond .le 7, 3) := by decide +kernel
theorem i_236_111 : ins 236 111 = some (.iconst 1, 1) := by decide +kernel
theorem i_236_112 : ins 236 112 = some (.goto 4, 3) := by decide +kernel
theorem t_112_116 : tg 112 (4) = some 116 := by decide +kernel
theorem i_236_115 : ins 236 115 = some (.iconst 0, 1) := by decide +kernel
theorem i_236_116 : ins 236 116 = some (.ireturn, 1) := by decide +kernel
theorem i_237_0 : ins 237 0 = some (.aload_n 0, 1) := by decide +kernel
theorem v_237_1 : inv 237 1 = some (225, 0, 2, 0) := by decide +kernel
theorem i_237_1 : ins 237 1 = some (.invokespecial 1, 3) := by decide +kernel
theorem i_237_4 : ins 237 4 = some (.aload_n 0, 1) := by decide +kernel
theorem i_237_5 : ins 237 5 = some (.aload_n 1, 1) := by decide +kernel
theorem f_237_7 : fld 237 7 = some (17826086, 0, 2) := by decide +kernel
theorem o_237_17826086_0 : putok 237 17826086 0 = true := by decide +kernel
theorem i_237_6 : ins 237 6 = some (.putfield 7, 3) := by decide +kernel
theorem i_237_9 : ins 237 9 = some (.aload_n 0, 1) := by decide +kernel
theorem i_237_10 : ins 237 10 = some (.iload_n 2, 1) := by decide +kernel
theorem f_237_13 : fld 237 13 = some (17826086, 2, 5) := by decide +kernel
theorem o_237_17826086_2 : putok 237 17826086 2 = true := by decide +kernel
theorem i_237_11 : ins 237 11 = some (.putfield 13, 3) := by decide +kernel
theorem i_237_14 : ins 237 14 = some (.aload_n 0, 1) := by decide +kernel
theorem i_237_15 : ins 237 15 = some (.aload_n 3, 1) := by decide +kernel
theorem f_237_17 : fld 237 17 = some (17826086, 1, 2) := by decide +kernel
theorem o_237_17826086_1 : putok 237 17826086 1 = true := by decide +kernel
theorem i_237_16 : ins 237 16 = some (.putfield 17, 3) := by decide +kernel
theorem i_237_19 : ins 237 19 = some (.return_, 1) := by decide +kernel
theorem r_237 : mret 237 = 0 := by decide +kernel
theorem i_238_0 : ins 238 0 = some (.aload_n 0, 1) := by decide +kernel
theorem f_238_13 : fld 238 13 = some (17826086, 2, 5) := by decide +kernel
theorem i_238_1 : ins 238 1 = some (.getfield 13, 3) := by decide +kernel
theorem i_238_4 : ins 238 4 = some (.ifCond .eq 33, 3) := by decide +kernel
theorem t_4_37 : tg 4 (33) = some 37 := by decide +kernel
theorem i_238_7 : ins 238 7 = some (.aload_n 0, 1) := by decide +kernel
theorem f_238_7 : fld 238 7 = some (17826086, 0, 2) := by decide +kernel
theorem i_238_8 : ins 238 8 = some (.getfield 7, 3) := by decide +kernel
theorem i_238_11 : ins 238 11 = some (.aload_n 1, 1) := by decide +kernel
theorem v_238_20 : inv 238 20 = some (1, 1, 3, 0) := by decide +kernel
theorem i_238_12 : ins 238 12 = some (.invokevirtual 20, 3) := by decide +kernel
theorem i_238_15 : ins 238 15 = some (.ifCond .eq 18, 3) := by decide +kernel
theorem t_15_33 : tg 15 (18) = some 33 := by decide +kernel
theorem i_238_18 : ins 238 18 = some (.aload_n 0, 1) := by decide +kernel
theorem f_238_17 : fld 238 17 = some (17826086, 1, 2) := by decide +kernel
theorem i_238_19 : ins 238 19 = some (.getfield 17, 3) := by decide +kernel
theorem i_238_22 : ins 238 22 = some (.aload_n 1, 1) := by decide +kernel
theorem i_238_23 : ins 238 23 = some (.invokevirtual 20, 3) := by decide +kernel
theorem i_238_26 : ins 238 26 = some (.ifCond .eq 7, 3) := by decide +kernel
theorem t_26_33 : tg 26 (7) = some 33 := by decide +kernel
theorem i_238_29 : ins 238 29 = some (.iconst 1, 1) := by decide +kernel
theorem i_238_30 : ins 238 30 = some (.goto 34, 3) := by decide +kernel
theorem t_30_64 : tg 30 (34) = some 64 := by decide +kernel
theorem i_238_33 : ins 238 33 = some (.iconst 0, 1) := by decide +kernel
theorem i_238_34 : ins 238 34 = some (.goto 30, 3) := by decide +kernel
theorem t_34_64 : tg 34 (30) = some 64 := by decide +kernel
theorem i_238_37 : ins 238 37 = some (.aload_n 0, 1) := by decide +kernel
theorem i_238_38 : ins 238 38 = some (.getfield 7, 3) := by decide +kernel
theorem i_238_41 : ins 238 41 = some (.aload_n 1, 1) := by decide +kernel
theorem i_238_42 : ins 238 42 = some (.invokevirtual 20, 3) := by decide +kernel
theorem i_238_45 : ins 238 45 = some (.ifCond .ne 14, 3) := by decide +kernel
theorem t_45_59 : tg 45 (14) = some 59 := by decide +kernel
theorem i_238_48 : ins 238 48 = some (.aload_n 0, 1) := by decide +kernel
theorem i_238_49 : ins 238 49 = some (.getfield 17, 3) := by decide +kernel
theorem i_238_52 : ins 238 52 = some (.aload_n 1, 1) := by decide +kernel
theorem i_238_53 : ins 238 53 = some (.invokevirtual 20, 3) := by decide +kernel
theorem i_238_56 : ins 238 56 = some (.ifCond .eq 7, 3) := by decide +kernel
theorem i_238_59 : ins 238 59 = some (.iconst 1, 1) := by decide +kernel
theorem i_238_60 : ins 238 60 = some (.goto 4, 3) := by decide +kernel
theorem i_238_63 : ins 238 63 = some (.iconst 0, 1) := by decide +kernel
theorem r_238 : mret 238 = 2 := by decide +kernel
theorem i_238_64 : ins 238 64 = some (.ireturn, 1) := by decide +kernel
theorem i_239_0 : ins 239 0 = some (.aload_n 1, 1) := by decide +kernel
theorem f_239_26 : fld 239 26 = some (9437318, 7, 5) := by decide +kernel
theorem i_239_1 : ins 239 1 = some (.getfield 26, 3) := by decide +kernel
theorem i_239_4 : ins 239 4 = some (.aload_n 0, 1) := by decide +kernel
theorem f_239_7 : fld 239 7 = some (18874678, 0, 5) := by decide +kernel
theorem i_239_5 : ins 239 5 = some (.getfield 7, 3) := by decide +kernel
theorem i_239_8 : ins 239 8 = some (.if_icmp .ne 46, 3) := by decide +kernel
theorem t_8_54 : tg 8 (46) = some 54 := by decide +kernel
theorem i_239_11 : ins 239 11 = some (.aload_n 0, 1) := by decide +kernel
theorem f_239_13 : fld 239 13 = some (18874678, 1, 0) := by decide +kernel
theorem i_239_12 : ins 239 12 = some (.getfield 13, 3) := by decide +kernel
theorem i_239_15 : ins 239 15 = some (.aload_n 1, 1) := by decide +kernel
theorem f_239_29 : fld 239 29 = some (9437318, 1, 0) := by decide +kernel
theorem i_239_16 : ins 239 16 = some (.getfield 29, 3) := by decide +kernel
theorem i_239_19 : ins 239 19 = some (.ishr, 1) := by decide +kernel
theorem i_239_20 : ins 239 20 = some (.iconst 1, 1) := by decide +kernel
theorem i_239_21 : ins 239 21 = some (.iand, 1) := by decide +kernel
theorem i_239_22 : ins 239 22 = some (.iconst 1, 1) := by decide +kernel
theorem i_239_23 : ins 239 23 = some (.if_icmp .ne 31, 3) := by decide +kernel
theorem t_23_54 : tg 23 (31) = some 54 := by decide +kernel
theorem i_239_26 : ins 239 26 = some (.aload_n 1, 1) := by decide +kernel
theorem f_239_32 : fld 239 32 = some (9437318, 2, 0) := by decide +kernel
theorem i_239_27 : ins 239 27 = some (.getfield 32, 3) := by decide +kernel
theorem i_239_30 : ins 239 30 = some (.i2l, 1) := by decide +kernel
theorem i_239_31 : ins 239 31 = some (.aload_n 0, 1) := by decide +kernel
theorem f_239_17 : fld 239 17 = some (18874678, 2, 0) := by decide +kernel
theorem i_239_32 : ins 239 32 = some (.getfield 17, 3) := by decide +kernel
theorem i_239_35 : ins 239 35 = some (.i2l, 1) := by decide +kernel
theorem i_239_36 : ins 239 36 = some (.aload_n 0, 1) := by decide +kernel
theorem f_239_20 : fld 239 20 = some (18874678, 3, 0) := by decide +kernel
theorem i_239_37 : ins 239 37 = some (.getfield 20, 3) := by decide +kernel
theorem i_239_40 : ins 239 40 = some (.i2l, 1) := by decide +kernel
theorem v_239_35 : inv 239 35 = some (2, 3, 0, 0) := by decide +kernel
theorem i_239_41 : ins 239 41 = some (.invokestatic 35, 3) := by decide +kernel
theorem i_239_44 : ins 239 44 = some (.ifCond .eq 10, 3) := by decide +kernel
theorem t_44_54 : tg 44 (10) = some 54 := by decide +kernel
theorem i_239_47 : ins 239 47 = some (.aload_n 1, 1) := by decide +kernel
theorem f_239_41 : fld 239 41 = some (9437318, 4, 0) := by decide +kernel
theorem i_239_48 : ins 239 48 = some (.getfield 41, 3) := by decide +kernel
theorem i_239_51 : ins 239 51 = some (.goto 4, 3) := by decide +kernel
theorem t_51_55 : tg 51 (4) = some 55 := by decide +kernel
theorem i_239_54 : ins 239 54 = some (.iconst 0, 1) := by decide +kernel
theorem r_239 : mret 239 = 1 := by decide +kernel
theorem i_239_55 : ins 239 55 = some (.ireturn, 1) := by decide +kernel
theorem i_240_0 : ins 240 0 = some (.aload_n 0, 1) := by decide +kernel
theorem v_240_1 : inv 240 1 = some (0, 0, 4, 0) := by decide +kernel
theorem i_240_1 : ins 240 1 = some (.invokespecial 1, 3) := by decide +kernel
theorem i_240_4 : ins 240 4 = some (.aload_n 0, 1) := by decide +kernel
theorem i_240_5 : ins 240 5 = some (.iload_n 1, 1) := by decide +kernel
theorem f_240_7 : fld 240 7 = some (18874678, 0, 5) := by decide +kernel
theorem o_240_18874678_0 : putok 240 18874678 0 = true := by decide +kernel
theorem i_240_6 : ins 240 6 = some (.putfield 7, 3) := by decide +kernel
theorem i_240_9 : ins 240 9 = some (.aload_n 0, 1) := by decide +kernel
theorem i_240_10 : ins 240 10 = some (.iload_n 2, 1) := by decide +kernel
theorem f_240_13 : fld 240 13 = some (18874678, 1, 0) := by decide +kernel
theorem o_240_18874678_1 : putok 240 18874678 1 = true := by decide +kernel
theorem i_240_11 : ins 240 11 = some (.putfield 13, 3) := by decide +kernel
theorem i_240_14 : ins 240 14 = some (.aload_n 0, 1) := by decide +kernel
theorem i_240_15 : ins 240 15 = some (.iload_n 3, 1) := by decide +kernel
theorem f_240_17 : fld 240 17 = some (18874678, 2, 0) := by decide +kernel
theorem o_240_18874678_2 : putok 240 18874678 2 = true := by decide +kernel
theorem i_240_16 : ins 240 16 = some (.putfield 17, 3) := by decide +kernel
theorem i_240_19 : ins 240 19 = some (.aload_n 0, 1) := by decide +kernel
theorem i_240_20 : ins 240 20 = some (.iload 4, 2) := by decide +kernel
theorem f_240_20 : fld 240 20 = some (18874678, 3, 0) := by decide +kernel
theorem o_240_18874678_3 : putok 240 18874678 3 = true := by decide +kernel
theorem i_240_22 : ins 240 22 = some (.putfield 20, 3) := by decide +kernel
theorem i_240_25 : ins 240 25 = some (.aload_n 0, 1) := by decide +kernel
theorem i_240_26 : ins 240 26 = some (.iload 5, 2) := by decide +kernel
theorem f_240_23 : fld 240 23 = some (18874678, 4, 0) := by decide +kernel
theorem o_240_18874678_4 : putok 240 18874678 4 = true := by decide +kernel
theorem i_240_28 : ins 240 28 = some (.putfield 23, 3) := by decide +kernel
theorem i_240_31 : ins 240 31 = some (.return_, 1) := by decide +kernel
theorem r_240 : mret 240 = 0 := by decide +kernel
theorem i_241_0 : ins 241 0 = some (.aload_n 0, 1) := by decide +kernel
theorem v_241_1 : inv 241 1 = some (0, 0, 4, 0) := by decide +kernel
theorem i_241_1 : ins 241 1 = some (.invokespecial 1, 3) := by decide +kernel
theorem i_241_4 : ins 241 4 = some (.aload_n 0, 1) := by decide +kernel
theorem i_241_5 : ins 241 5 = some (.iload_n 1, 1) := by decide +kernel
theorem f_241_7 : fld 241 7 = some (19923270, 0, 0) := by decide +kernel
theorem o_241_19923270_0 : putok 241 19923270 0 = true := by decide +kernel
theorem i_241_6 : ins 241 6 = some (.putfield 7, 3) := by decide +kernel
theorem i_241_9 : ins 241 9 = some (.aload_n 0, 1) := by decide +kernel
theorem i_241_10 : ins 241 10 = some (.iload_n 2, 1) := by decide +kernel
theorem f_241_13 : fld 241 13 = some (19923270, 1, 0) := by decide +kernel
theorem o_241_19923270_1 : putok 241 19923270 1 = true := by decide +kernel
theorem i_241_11 : ins 241 11 = some (.putfield 13, 3) := by decide +kernel
theorem i_241_14 : ins 241 14 = some (.aload_n 0, 1) := by decide +kernel
theorem i_241_15 : ins 241 15 = some (.iload_n 3, 1) := by decide +kernel
theorem f_241_16 : fld 241 16 = some (19923270, 2, 0) := by decide +kernel
theorem o_241_19923270_2 : putok 241 19923270 2 = true := by decide +kernel
theorem i_241_16 : ins 241 16 = some (.putfield 16, 3) := by decide +kernel
theorem i_241_19 : ins 241 19 = some (.aload_n 0, 1) := by decide +kernel
theorem i_241_20 : ins 241 20 = some (.lload 4, 2) := by decide +kernel
theorem f_241_19 : fld 241 19 = some (19923270, 3, 1) := by decide +kernel
theorem o_241_19923270_3 : putok 241 19923270 3 = true := by decide +kernel
theorem i_241_22 : ins 241 22 = some (.putfield 19, 3) := by decide +kernel
theorem i_241_25 : ins 241 25 = some (.aload_n 0, 1) := by decide +kernel
theorem i_241_26 : ins 241 26 = some (.iload 6, 2) := by decide +kernel
theorem f_241_23 : fld 241 23 = some (19923270, 4, 5) := by decide +kernel
theorem o_241_19923270_4 : putok 241 19923270 4 = true := by decide +kernel
theorem i_241_28 : ins 241 28 = some (.putfield 23, 3) := by decide +kernel
theorem i_241_31 : ins 241 31 = some (.return_, 1) := by decide +kernel
theorem r_241 : mret 241 = 0 := by decide +kernel
theorem i_242_0 : ins 242 0 = some (.aload_n 0, 1) := by decide +kernel
theorem f_242_13 : fld 242 13 = some (19923270, 1, 0) := by decide +kernel
theorem i_242_1 : ins 242 1 = some (.getfield 13, 3) := by decide +kernel
theorem i_242_4 : ins 242 4 = some (.iload_n 1, 1) := by decide +kernel
theorem i_242_5 : ins 242 5 = some (.if_icmp .ge 15, 3) := by decide +kernel
theorem i_242_8 : ins 242 8 = some (.aload_n 0, 1) := by decide +kernel
theorem i_242_9 : ins 242 9 = some (.getfield 13, 3) := by decide +kernel
theorem i_242_12 : ins 242 12 = some (.iload_n 2, 1) := by decide +kernel
theorem i_242_13 : ins 242 13 = some (.if_icmp .gt 7, 3) := by decide +kernel
theorem t_13_20 : tg 13 (7) = some 20 := by decide +kernel
theorem i_242_16 : ins 242 16 = some (.iconst 1, 1) := by decide +kernel
theorem i_242_17 : ins 242 17 = some (.goto 4, 3) := by decide +kernel
theorem t_17_21 : tg 17 (4) = some 21 := by decide +kernel
theorem i_242_20 : ins 242 20 = some (.iconst 0, 1) := by decide +kernel
theorem r_242 : mret 242 = 2 := by decide +kernel
theorem i_242_21 : ins 242 21 = some (.ireturn, 1) := by decide +kernel
theorem i_243_0 : ins 243 0 = some (.aload_n 0, 1) := by decide +kernel
theorem v_243_1 : inv 243 1 = some (0, 0, 4, 0) := by decide +kernel
theorem i_243_1 : ins 243 1 = some (.invokespecial 1, 3) := by decide +kernel
theorem i_243_4 : ins 243 4 = some (.aload_n 0, 1) := by decide +kernel
theorem i_243_5 : ins 243 5 = some (.iload_n 1, 1) := by decide +kernel
theorem f_243_7 : fld 243 7 = some (20971862, 0, 0) := by decide +kernel
theorem o_243_20971862_0 : putok 243 20971862 0 = true := by decide +kernel
theorem i_243_6 : ins 243 6 = some (.putfield 7, 3) := by decide +kernel
theorem i_243_9 : ins 243 9 = some (.aload_n 0, 1) := by decide +kernel
theorem i_243_10 : ins 243 10 = some (.iload_n 2, 1) := by decide +kernel
theorem f_243_13 : fld 243 13 = some (20971862, 1, 0) := by decide +kernel
theorem o_243_20971862_1 : putok 243 20971862 1 = true := by decide +kernel
theorem i_243_11 : ins 243 11 = some (.putfield 13, 3) := by decide +kernel
theorem i_243_14 : ins 243 14 = some (.aload_n 0, 1) := by decide +kernel
theorem i_243_15 : ins 243 15 = some (.iload_n 3, 1) := by decide +kernel
theorem f_243_16 : fld 243 16 = some (20971862, 2, 0) := by decide +kernel
theorem o_243_20971862_2 : putok 243 20971862 2 = true := by decide +kernel
theorem i_243_16 : ins 243 16 = some (.putfield 16, 3) := by decide +kernel
theorem i_243_19 : ins 243 19 = some (.aload_n 0, 1) := by decide +kernel
theorem i_243_20 : ins 243 20 = some (.iload 4, 2) := by decide +kernel
theorem f_243_19 : fld 243 19 = some (20971862, 3, 0) := by decide +kernel
theorem o_243_20971862_3 : putok 243 20971862 3 = true := by decide +kernel
theorem i_243_22 : ins 243 22 = some (.putfield 19, 3) := by decide +kernel
theorem i_243_25 : ins 243 25 = some (.return_, 1) := by decide +kernel
theorem r_243 : mret 243 = 0 := by decide +kernel
theorem i_244_0 : ins 244 0 = some (.aload_n 0, 1) := by decide +kernel
theorem f_244_16 : fld 244 16 = some (20971862, 2, 0) := by decide +kernel
theorem i_244_1 : ins 244 1 = some (.getfield 16, 3) := by decide +kernel
theorem i_244_4 : ins 244 4 = some (.i2l, 1) := by decide +kernel
theorem i_244_5 : ins 244 5 = some (.iload_n 1, 1) := by decide +kernel
theorem i_244_6 : ins 244 6 = some (.i2l, 1) := by decide +kernel
theorem i_244_7 : ins 244 7 = some (.lmul, 1) := by decide +kernel
theorem l_244_22 : ldcv 244 22 = some (vL (999)) := rfl
theorem i_244_8 : ins 244 8 = some (.ldc2_w 22, 3) := by decide +kernel
theorem i_244_11 : ins 244 11 = some (.ladd, 1) := by decide +kernel
theorem l_244_24 : ldcv 244 24 = some (vL (1000)) := rfl
theorem i_244_12 : ins 244 12 = some (.ldc2_w 24, 3) := by decide +kernel
theorem i_244_15 : ins 244 15 = some (.ldiv, 1) := by decide +kernel
theorem i_244_16 : ins 244 16 = some (.l2i, 1) := by decide +kernel
theorem r_244 : mret 244 = 1 := by decide +kernel
theorem i_244_17 : ins 244 17 = some (.ireturn, 1) := by decide +kernel
theorem i_245_0 : ins 245 0 = some (.aload_n 0, 1) := by decide +kernel
theorem v_245_1 : inv 245 1 = some (0, 0, 4, 0) := by decide +kernel
theorem i_245_1 : ins 245 1 = some (.invokespecial 1, 3) := by decide +kernel
theorem i_245_4 : ins 245 4 = some (.aload_n 0, 1) := by decide +kernel
theorem i_245_5 : ins 245 5 = some (.aload_n 0, 1) := by decide +kernel
theorem f_245_7 : fld 245 7 = some (2097174, 0, 2) := by decide +kernel
theorem o_245_2097174_0 : putok 245 2097174 0 = true := by decide +kernel
theorem i_245_6 : ins 245 6 = some (.putfield 7, 3) := by decide +kernel
theorem i_245_9 : ins 245 9 = some (.aload_n 0, 1) := by decide +kernel
theorem g_245_13 : stat 245 13 = some (vR (7, 0)) := rfl
theorem i_245_10 : ins 245 10 = some (.getstatic 13, 3) := by decide +kernel
theorem f_245_17 : fld 245 17 = some (2097174, 1, 2) := by decide +kernel
theorem o_245_2097174_1 : putok 245 2097174 1 = true := by decide +kernel
theorem i_245_13 : ins 245 13 = some (.putfield 17, 3) := by decide +kernel
theorem i_245_16 : ins 245 16 = some (.aload_n 0, 1) := by decide +kernel
theorem g_245_20 : stat 245 20 = some (vR (7, 1)) := rfl
theorem i_245_17 : ins 245 17 = some (.getstatic 20, 3) := by decide +kernel
theorem f_245_24 : fld 245 24 = some (2097174, 2, 2) := by decide +kernel
theorem o_245_2097174_2 : putok 245 2097174 2 = true := by decide +kernel
theorem i_245_20 : ins 245 20 = some (.putfield 24, 3) := by decide +kernel
theorem i_245_23 : ins 245 23 = some (.iload 4, 2) := by decide +kernel
theorem i_245_25 : ins 245 25 = some (.ifCond .eq 11, 3) := by decide +kernel
theorem t_25_36 : tg 25 (11) = some 36 := by decide +kernel
theorem i_245_28 : ins 245 28 = some (.aload_n 0, 1) := by decide +kernel
theorem i_245_36 : ins 245 36 = some (.aload_n 0, 1) := by decide +kernel
theorem i_245_37 : ins 245 37 = some (.aconst_null, 1) := by decide +kernel
theorem i_245_38 : ins 245 38 = some (.putfield 17, 3) := by decide +kernel
theorem i_245_41 : ins 245 41 = some (.aload_n 0, 1) := by decide +kernel
theorem i_245_42 : ins 245 42 = some (.aload_n 1, 1) := by decide +kernel
theorem f_245_31 : fld 245 31 = some (2097174, 3, 2) := by decide +kernel
theorem o_245_2097174_3 : putok 245 2097174 3 = true := by decide +kernel
theorem i_245_43 : ins 245 43 = some (.putfield 31, 3) := by decide +kernel
theorem i_245_46 : ins 245 46 = some (.aload_n 0, 1) := by decide +kernel
theorem i_245_47 : ins 245 47 = some (.aload_n 2, 1) := by decide +kernel
theorem i_245_48 : ins 245 48 = some (.putfield 7, 3) := by decide +kernel
theorem i_245_51 : ins 245 51 = some (.iload_n 3, 1) := by decide +kernel
theorem i_245_52 : ins 245 52 = some (.ifCond .ne 8, 3) := by decide +kernel
theorem t_52_60 : tg 52 (8) = some 60 := by decide +kernel
theorem i_245_55 : ins 245 55 = some (.aload_n 0, 1) := by decide +kernel
theorem i_245_56 : ins 245 56 = some (.aconst_null, 1) := by decide +kernel
theorem i_245_57 : ins 245 57 = some (.putfield 24, 3) := by decide +kernel
theorem i_245_60 : ins 245 60 = some (.return_, 1) := by decide +kernel
theorem r_245 : mret 245 = 0 := by decide +kernel
theorem i_246_0 : ins 246 0 = some (.aload_n 0, 1) := by decide +kernel
theorem i_246_1 : ins 246 1 = some (.aload_n 1, 1) := by decide +kernel
theorem i_246_2 : ins 246 2 = some (.aload_n 2, 1) := by decide +kernel
theorem i_246_3 : ins 246 3 = some (.iload_n 3, 1) := by decide +kernel
theorem i_246_4 : ins 246 4 = some (.iload 4, 2) := by decide +kernel
theorem v_246_16 : inv 246 16 = some (245, 4, 2, 0) := by decide +kernel
theorem i_246_6 : ins 246 6 = some (.invokespecial 16, 3) := by decide +kernel
theorem i_246_9 : ins 246 9 = some (.return_, 1) := by decide +kernel
theorem r_246 : mret 246 = 0 := by decide +kernel
theorem i_247_0 : ins 247 0 = some (.aload_n 0, 1) := by decide +kernel
theorem i_247_1 : ins 247 1 = some (.aload_n 1, 1) := by decide +kernel
theorem i_247_2 : ins 247 2 = some (.aload_n 2, 1) := by decide +kernel
theorem i_247_3 : ins 247 3 = some (.iload_n 3, 1) := by decide +kernel
theorem i_247_4 : ins 247 4 = some (.iload 4, 2) := by decide +kernel
theorem v_247_16 : inv 247 16 = some (246, 4, 2, 0) := by decide +kernel
theorem i_247_6 : ins 247 6 = some (.invokespecial 16, 3) := by decide +kernel
theorem i_247_9 : ins 247 9 = some (.return_, 1) := by decide +kernel
theorem r_247 : mret 247 = 0 := by decide +kernel
theorem i_248_0 : ins 248 0 = some (.iload_n 0, 1) := by decide +kernel
theorem i_248_1 : ins 248 1 = some (.iload_n 1, 1) := by decide +kernel
theorem i_248_2 : ins 248 2 = some (.if_icmp .lt 7, 3) := by decide +kernel
theorem i_248_5 : ins 248 5 = some (.iload_n 0, 1) := by decide +kernel
theorem i_248_6 : ins 248 6 = some (.goto 4, 3) := by decide +kernel
theorem i_248_9 : ins 248 9 = some (.iload_n 1, 1) := by decide +kernel
theorem r_248 : mret 248 = 1 := by decide +kernel
theorem i_248_10 : ins 248 10 = some (.ireturn, 1) := by decide +kernel
theorem i_249_0 : ins 249 0 = some (.lload_n 0, 1) := by decide +kernel
theorem i_249_1 : ins 249 1 = some (.lload_n 2, 1) := by decide +kernel
theorem i_249_2 : ins 249 2 = some (.lcmp, 1) := by decide +kernel
theorem i_249_3 : ins 249 3 = some (.ifCond .lt 7, 3) := by decide +kernel
theorem i_249_6 : ins 249 6 = some (.lload_n 0, 1) := by decide +kernel
theorem i_249_7 : ins 249 7 = some (.goto 4, 3) := by decide +kernel
theorem t_7_11 : tg 7 (4) = some 11 := by decide +kernel
theorem i_249_10 : ins 249 10 = some (.lload_n 2, 1) := by decide +kernel
theorem i_249_11 : ins 249 11 = some (.lreturn, 1) := by decide +kernel
theorem r_249 : mret 249 = 5 := by decide +kernel
theorem i_250_0 : ins 250 0 = some (.lload_n 0, 1) := by decide +kernel
theorem i_250_1 : ins 250 1 = some (.lconst 0, 1) := by decide +kernel
theorem t_3_11 : tg 3 (8) = some 11 := by decide +kernel
theorem i_250_2 : ins 250 2 = some (.lcmp, 1) := by decide +kernel
theorem i_250_3 : ins 250 3 = some (.ifCond .ge 8, 3) := by decide +kernel
theorem i_250_6 : ins 250 6 = some (.lload_n 0, 1) := by decide +kernel
theorem i_250_7 : ins 250 7 = some (.lneg, 1) := by decide +kernel
theorem i_250_8 : ins 250 8 = some (.goto 4, 3) := by decide +kernel
theorem t_8_12 : tg 8 (4) = some 12 := by decide +kernel
theorem i_250_11 : ins 250 11 = some (.lload_n 0, 1) := by decide +kernel
theorem i_250_12 : ins 250 12 = some (.lreturn, 1) := by decide +kernel
theorem r_250 : mret 250 = 5 := by decide +kernel
theorem i_251_0 : ins 251 0 = some (.iload_n 0, 1) := by decide +kernel
theorem i_251_1 : ins 251 1 = some (.ifCond .ge 8, 3) := by decide +kernel
theorem t_1_9 : tg 1 (8) = some 9 := by decide +kernel
theorem i_251_4 : ins 251 4 = some (.iload_n 0, 1) := by decide +kernel
theorem i_251_5 : ins 251 5 = some (.ineg, 1) := by decide +kernel
theorem i_251_6 : ins 251 6 = some (.goto 4, 3) := by decide +kernel
theorem i_251_9 : ins 251 9 = some (.iload_n 0, 1) := by decide +kernel
theorem r_251 : mret 251 = 1 := by decide +kernel
theorem i_251_10 : ins 251 10 = some (.ireturn, 1) := by decide +kernel
theorem i_252_0 : ins 252 0 = some (.lload_n 0, 1) := by decide +kernel
theorem i_252_1 : ins 252 1 = some (.lload_n 2, 1) := by decide +kernel
theorem i_252_2 : ins 252 2 = some (.lcmp, 1) := by decide +kernel
theorem i_252_3 : ins 252 3 = some (.ifCond .gt 7, 3) := by decide +kernel
theorem i_252_6 : ins 252 6 = some (.lload_n 0, 1) := by decide +kernel
theorem i_252_7 : ins 252 7 = some (.goto 4, 3) := by decide +kernel
theorem i_252_10 : ins 252 10 = some (.lload_n 2, 1) := by decide +kernel
theorem i_252_11 : ins 252 11 = some (.lreturn, 1) := by decide +kernel
theorem r_252 : mret 252 = 5 := by decide +kernel
theorem i_253_0 : ins 253 0 = some (.aload_n 0, 1) := by decide +kernel
theorem f_253_9 : fld 253 9 = some (8, 0, 3) := by decide +kernel
theorem i_253_1 : ins 253 1 = some (.getfield 9, 3) := by decide +kernel
theorem i_253_4 : ins 253 4 = some (.arraylength, 1) := by decide +kernel
theorem i_253_5 : ins 253 5 = some (.aload_n 0, 1) := by decide +kernel
theorem v_253_335 : inv 253 335 = some (254, 0, 1, 8) := by decide +kernel
theorem i_253_6 : ins 253 6 = some (.invokevirtual 335, 3) := by decide +kernel
theorem i_253_9 : ins 253 9 = some (.ishr, 1) := by decide +kernel
theorem r_253 : mret 253 = 1 := by decide +kernel
theorem i_253_10 : ins 253 10 = some (.ireturn, 1) := by decide +kernel
theorem g_254_38 : stat 254 38 = some (vI (nI 1)) := rfl
theorem i_254_0 : ins 254 0 = some (.getstatic 38, 3) := by decide +kernel
theorem i_254_3 : ins 254 3 = some (.ifCond .eq 10, 3) := by decide +kernel
theorem t_3_13 : tg 3 (10) = some 13 := by decide +kernel
theorem i_254_6 : ins 254 6 = some (.aload_n 0, 1) := by decide +kernel
theorem f_254_15 : fld 254 15 = some (8, 0, 4) := by decide +kernel
theorem i_254_7 : ins 254 7 = some (.getfield 15, 3) := by decide +kernel
theorem i_254_10 : ins 254 10 = some (.goto 4, 3) := by decide +kernel
theorem t_10_14 : tg 10 (4) = some 14 := by decide +kernel
theorem i_254_13 : ins 254 13 = some (.iconst 1, 1) := by decide +kernel
theorem r_254 : mret 254 = 3 := by decide +kernel
theorem i_254_14 : ins 254 14 = some (.ireturn, 1) := by decide +kernel
theorem i_255_0 : ins 255 0 = some (.aload_n 0, 1) := by decide +kernel
theorem v_255_492 : inv 255 492 = some (256, 0, 1, 8) := by decide +kernel
theorem i_255_1 : ins 255 1 = some (.invokevirtual 492, 3) := by decide +kernel
theorem i_255_4 : ins 255 4 = some (.ifCond .eq 12, 3) := by decide +kernel
theorem i_255_7 : ins 255 7 = some (.aload_n 0, 1) := by decide +kernel
theorem f_255_9 : fld 255 9 = some (8, 0, 3) := by decide +kernel
theorem i_255_8 : ins 255 8 = some (.getfield 9, 3) := by decide +kernel
theorem i_255_11 : ins 255 11 = some (.iload_n 1, 1) := by decide +kernel
theorem v_255_495 : inv 255 495 = some (258, 2, 0, 0) := by decide +kernel
theorem i_255_12 : ins 255 12 = some (.invokestatic 495, 3) := by decide +kernel
theorem r_255 : mret 255 = 4 := by decide +kernel
theorem i_255_15 : ins 255 15 = some (.ireturn, 1) := by decide +kernel
theorem i_255_16 : ins 255 16 = some (.aload_n 0, 1) := by decide +kernel
theorem i_255_17 : ins 255 17 = some (.getfield 9, 3) := by decide +kernel
theorem i_255_20 : ins 255 20 = some (.iload_n 1, 1) := by decide +kernel
theorem g_256_38 : stat 256 38 = some (vI (nI 1)) := rfl
theorem i_256_0 : ins 256 0 = some (.getstatic 38, 3) := by decide +kernel
theorem i_256_3 : ins 256 3 = some (.ifCond .eq 14, 3) := by decide +kernel
theorem i_256_6 : ins 256 6 = some (.aload_n 0, 1) := by decide +kernel
theorem f_256_15 : fld 256 15 = some (8, 0, 4) := by decide +kernel
theorem i_256_7 : ins 256 7 = some (.getfield 15, 3) := by decide +kernel
theorem i_256_10 : ins 256 10 = some (.ifCond .ne 7, 3) := by decide +kernel
theorem i_256_13 : ins 256 13 = some (.iconst 1, 1) := by decide +kernel
theorem i_256_14 : ins 256 14 = some (.goto 4, 3) := by decide +kernel
theorem i_256_17 : ins 256 17 = some (.iconst 0, 1) := by decide +kernel
theorem r_256 : mret 256 = 2 := by decide +kernel
theorem i_256_18 : ins 256 18 = some (.ireturn, 1) := by decide +kernel
theorem i_257_0 : ins 257 0 = some (.iload_n 0, 1) := by decide +kernel
theorem i_257_1 : ins 257 1 = some (.iload_n 1, 1) := by decide +kernel
theorem g_257_1053 : stat 257 1053 = some (vR (7, 2)) := rfl
theorem i_257_2 : ins 257 2 = some (.getstatic 1053, 3) := by decide +kernel
theorem v_257_1059 : inv 257 1059 = some (259, 3, 0, 0) := by decide +kernel
theorem i_257_5 : ins 257 5 = some (.invokestatic 1059, 3) := by decide +kernel
theorem i_257_8 : ins 257 8 = some (.pop, 1) := by decide +kernel
theorem i_257_9 : ins 257 9 = some (.return_, 1) := by decide +kernel
theorem r_257 : mret 257 = 0 := by decide +kernel
theorem i_258_0 : ins 258 0 = some (.iload_n 1, 1) := by decide +kernel
theorem i_258_1 : ins 258 1 = some (.aload_n 0, 1) := by decide +kernel
theorem i_258_2 : ins 258 2 = some (.arraylength, 1) := by decide +kernel
theorem v_258_9 : inv 258 9 = some (257, 2, 0, 0) := by decide +kernel
theorem i_258_3 : ins 258 3 = some (.invokestatic 9, 3) := by decide +kernel
theorem i_258_6 : ins 258 6 = some (.aload_n 0, 1) := by decide +kernel
theorem i_258_7 : ins 258 7 = some (.iload_n 1, 1) := by decide +kernel
theorem i_258_8 : ins 258 8 = some (.baload, 1) := by decide +kernel
theorem i_258_9 : ins 258 9 = some (.sipush 255, 3) := by decide +kernel
theorem i_258_12 : ins 258 12 = some (.iand, 1) := by decide +kernel
theorem i_258_13 : ins 258 13 = some (.i2c, 1) := by decide +kernel
theorem r_258 : mret 258 = 4 := by decide +kernel
theorem i_258_14 : ins 258 14 = some (.ireturn, 1) := by decide +kernel
theorem i_259_0 : ins 259 0 = some (.iload_n 0, 1) := by decide +kernel
theorem i_259_1 : ins 259 1 = some (.ifCond .lt 8, 3) := by decide +kernel
theorem i_259_4 : ins 259 4 = some (.iload_n 0, 1) := by decide +kernel
theorem i_259_5 : ins 259 5 = some (.iload_n 1, 1) := by decide +kernel
theorem i_259_6 : ins 259 6 = some (.if_icmp .lt 10, 3) := by decide +kernel
theorem t_6_16 : tg 6 (10) = some 16 := by decide +kernel
theorem i_259_9 : ins 259 9 = some (.aload_n 2, 1) := by decide +kernel
theorem i_259_10 : ins 259 10 = some (.iload_n 0, 1) := by decide +kernel
theorem i_259_11 : ins 259 11 = some (.iload_n 1, 1) := by decide +kernel
theorem i_259_16 : ins 259 16 = some (.iload_n 0, 1) := by decide +kernel
theorem r_259 : mret 259 = 1 := by decide +kernel
theorem i_259_17 : ins 259 17 = some (.ireturn, 1) := by decide +kernel
theorem i_260_0 : ins 260 0 = some (.return_, 1) := by decide +kernel
theorem r_260 : mret 260 = 0 := by decide +kernel
theorem n_261_7 : newk 261 7 = some (1048582, 56) := by decide +kernel
theorem i_261_0 : ins 261 0 = some (.new 7, 3) := by decide +kernel
theorem i_261_3 : ins 261 3 = some (.dup, 1) := by decide +kernel
theorem v_261_9 : inv 261 9 = some (0, 0, 2, 0) := by decide +kernel
theorem i_261_4 : ins 261 4 = some (.invokespecial 9, 3) := by decide +kernel
theorem i_261_7 : ins 261 7 = some (.astore_n 1, 1) := by decide +kernel
theorem n_261_10 : newk 261 10 = some (7340134, 107) := by decide +kernel
theorem i_261_8 : ins 261 8 = some (.new 10, 3) := by decide +kernel
theorem i_261_11 : ins 261 11 = some (.dup, 1) := by decide +kernel
theorem v_261_12 : inv 261 12 = some (92, 0, 2, 0) := by decide +kernel
theorem i_261_12 : ins 261 12 = some (.invokespecial 12, 3) := by decide +kernel
theorem i_261_15 : ins 261 15 = some (.astore_n 2, 1) := by decide +kernel
theorem i_261_16 : ins 261 16 = some (.iconst 0, 1) := by decide +kernel
theorem i_261_17 : ins 261 17 = some (.istore_n 3, 1) := by decide +kernel
theorem i_261_18 : ins 261 18 = some (.iload_n 3, 1) := by decide +kernel
theorem i_261_19 : ins 261 19 = some (.aload_n 0, 1) := by decide +kernel
theorem i_261_20 : ins 261 20 = some (.arraylength, 1) := by decide +kernel
theorem i_261_21 : ins 261 21 = some (.bipush 8, 2) := by decide +kernel
theorem i_261_23 : ins 261 23 = some (.isub, 1) := by decide +kernel
theorem i_261_24 : ins 261 24 = some (.if_icmp .gt 1807, 3) := by decide +kernel
theorem t_24_1831 : tg 24 (1807) = some 1831 := by decide +kernel
theorem i_261_27 : ins 261 27 = some (.aload_n 0, 1) := by decide +kernel
theorem i_261_28 : ins 261 28 = some (.iload_n 3, 1) := by decide +kernel
theorem i_261_29 : ins 261 29 = some (.iaload, 1) := by decide +kernel
theorem kB_63 : (Int8.ofInt (63)).toInt32 = nI 63 := by decide +kernel
theorem i_261_30 : ins 261 30 = some (.bipush 63, 2) := by decide +kernel
theorem i_261_32 : ins 261 32 = some (.iand, 1) := by decide +kernel
theorem i_261_33 : ins 261 33 = some (.tableswitch 1792 0 37 #[167, 190, 213, 256, 309, 362, 481, 504, 573, 616, 679, 702, 725, 758, 811, 834, 910, 963, 1042, 1075, 1099, 1190, 1223, 1256, 1279, 1322, 1355, 1388, 1421, 1444, 1497, 1540, 1573, 1626, 1669, 1712, 1735, 1768], 167) := by decide +kernel
theorem t_33_1825 : tg 33 (1792) = some 1825 := by decide +kernel
theorem i_261_200 : ins 261 200 = some (.aload_n 1, 1) := by decide +kernel
theorem i_261_201 : ins 261 201 = some (.aload_n 0, 1) := by decide +kernel
theorem i_261_202 : ins 261 202 = some (.iload_n 3, 1) := by decide +kernel
