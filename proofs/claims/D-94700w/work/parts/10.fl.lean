/-! pool entries -/
theorem fl_J0_7 : JFL "java/lang/Throwable" 7 2 0 := jfl (by decide) (by decide) q296
theorem fl_J0_17 : JFL "java/lang/Throwable" 17 2 1 := jfl (by decide) (by decide) q297
theorem fl_J0_24 : JFL "java/lang/Throwable" 24 2 2 := jfl (by decide) (by decide) q298
theorem fl_J0_31 : JFL "java/lang/Throwable" 31 2 3 := jfl (by decide) (by decide) q295
theorem fl_X0_11 : JFL "BracketRoom" 11 0 0 := jfl (by decide) (by decide) q468
theorem fl_X0_23 : JFL "BracketRoom" 23 0 1 := jfl (by decide) (by decide) q469
theorem fl_X0_30 : JFL "BracketRoom" 30 0 2 := jfl (by decide) (by decide) q470
theorem fl_X0_34 : JFL "BracketRoom" 34 0 3 := jfl (by decide) (by decide) q471
theorem fl_X0_37 : JFL "BracketRoom" 37 0 4 := jfl (by decide) (by decide) q472
theorem fl_X0_41 : JFL "BracketRoom" 41 0 5 := jfl (by decide) (by decide) q473
theorem fl_X0_45 : JFL "BracketRoom" 45 0 9 := jfl (by decide) (by decide) q477
theorem fl_X0_49 : JFL "BracketRoom" 49 0 10 := jfl (by decide) (by decide) q478
theorem fl_X0_52 : JFL "BracketRoom" 52 0 12 := jfl (by decide) (by decide) q480
theorem fl_X0_56 : JFL "BracketRoom" 56 0 13 := jfl (by decide) (by decide) q481
theorem fl_X0_60 : JFL "BracketRoom" 60 0 14 := jfl (by decide) (by decide) q482
theorem fl_X0_63 : JFL "BracketRoom" 63 0 15 := jfl (by decide) (by decide) q483
theorem fl_X0_66 : JFL "BracketRoom" 66 0 16 := jfl (by decide) (by decide) q484
theorem fl_X0_69 : JFL "BracketRoom" 69 0 17 := jfl (by decide) (by decide) q485
theorem fl_X0_75 : JFL "BracketRoom" 75 0 18 := jfl (by decide) (by decide) q486
theorem fl_X0_79 : JFL "BracketRoom" 79 0 19 := jfl (by decide) (by decide) q487
theorem fl_X0_82 : JFL "BracketRoom" 82 0 20 := jfl (by decide) (by decide) q488
theorem fl_X0_85 : JFL "BracketRoom" 85 0 21 := jfl (by decide) (by decide) q489
theorem fl_X0_88 : JFL "BracketRoom" 88 0 22 := jfl (by decide) (by decide) q490
theorem fl_X0_93 : JFL "BracketRoom" 93 0 23 := jfl (by decide) (by decide) q491
theorem fl_X0_96 : JFL "BracketRoom" 96 0 24 := jfl (by decide) (by decide) q492
theorem fl_X0_99 : JFL "BracketRoom" 99 0 25 := jfl (by decide) (by decide) q493
theorem fl_X0_102 : JFL "BracketRoom" 102 0 26 := jfl (by decide) (by decide) q494
theorem fl_X0_105 : JFL "BracketRoom" 105 0 27 := jfl (by decide) (by decide) q495
theorem fl_X0_108 : JFL "BracketRoom" 108 0 28 := jfl (by decide) (by decide) q496
theorem fl_X0_112 : JFL "BracketRoom" 112 0 30 := jfl (by decide) (by decide) q498
theorem fl_X0_115 : JFL "BracketRoom" 115 0 33 := jfl (by decide) (by decide) q501
theorem fl_X0_118 : JFL "BracketRoom" 118 0 34 := jfl (by decide) (by decide) q502
theorem fl_X0_121 : JFL "BracketRoom" 121 0 35 := jfl (by decide) (by decide) q503
theorem fl_X0_124 : JFL "BracketRoom" 124 0 36 := jfl (by decide) (by decide) q504
theorem fl_X0_127 : JFL "BracketRoom" 127 0 37 := jfl (by decide) (by decide) q505
theorem fl_X0_130 : JFL "BracketRoom" 130 0 38 := jfl (by decide) (by decide) q506
theorem fl_X0_133 : JFL "BracketRoom" 133 0 39 := jfl (by decide) (by decide) q507
theorem fl_X0_138 : JFL "BracketRoom" 138 0 46 := jfl (by decide) (by decide) q514
theorem fl_X0_144 : JFL "BracketRoom" 144 0 8 := jfl (by decide) (by decide) q476
theorem fl_X0_147 : JFL "BracketRoom" 147 0 11 := jfl (by decide) (by decide) q479
theorem fl_X0_181 : JFL "BracketRoom" 181 5 0 := jflN (host := "BracketRoom") (by decide) (by decide) q434
theorem fl_X0_196 : JFL "BracketRoom" 196 3 2 := jflN (host := "BracketRoom") (by decide) (by decide) q394
theorem fl_X0_203 : JFL "BracketRoom" 203 1 9 := jflN (host := "BracketRoom") (by decide) (by decide) q320
theorem fl_X0_210 : JFL "BracketRoom" 210 1 0 := jflS (ref := "BracketRoom$Reader") (by decide) (by decide) q330 q329
theorem fl_X0_214 : JFL "BracketRoom" 214 2 6 := jflN (host := "BracketRoom") (by decide) (by decide) q291
theorem fl_X0_217 : JFL "BracketRoom" 217 2 7 := jflN (host := "BracketRoom") (by decide) (by decide) q293
theorem fl_X0_242 : JFL "BracketRoom" 242 0 6 := jfl (by decide) (by decide) q474
theorem fl_X0_249 : JFL "BracketRoom" 249 0 7 := jfl (by decide) (by decide) q475
theorem fl_X0_253 : JFL "BracketRoom" 253 3 1 := jflN (host := "BracketRoom") (by decide) (by decide) q390
theorem fl_X0_256 : JFL "BracketRoom" 256 3 0 := jfl (by decide) (by decide) q386
theorem fl_X0_302 : JFL "BracketRoom" 302 4 2 := jflN (host := "BracketRoom") (by decide) (by decide) q415
theorem fl_X0_305 : JFL "BracketRoom" 305 4 0 := jfl (by decide) (by decide) q411
theorem fl_X0_403 : JFL "BracketRoom" 403 4 1 := jfl (by decide) (by decide) q413
theorem fl_X0_445 : JFL "BracketRoom" 445 0 31 := jfl (by decide) (by decide) q499
theorem fl_X0_448 : JFL "BracketRoom" 448 0 32 := jfl (by decide) (by decide) q500
theorem fl_X0_452 : JFL "BracketRoom" 452 0 29 := jfl (by decide) (by decide) q497
theorem fl_X0_521 : JFL "BracketRoom" 521 8 4 := jflN (host := "BracketRoom") (by decide) (by decide) q976
theorem fl_X0_526 : JFL "BracketRoom" 526 8 3 := jflN (host := "BracketRoom") (by decide) (by decide) q974
theorem fl_X0_529 : JFL "BracketRoom" 529 8 5 := jflN (host := "BracketRoom") (by decide) (by decide) q978
theorem fl_X0_532 : JFL "BracketRoom" 532 8 1 := jflN (host := "BracketRoom") (by decide) (by decide) q970
theorem fl_X0_537 : JFL "BracketRoom" 537 8 0 := jfl (by decide) (by decide) q968
theorem fl_X0_538 : JFL "BracketRoom" 538 8 2 := jflN (host := "BracketRoom") (by decide) (by decide) q972
theorem fl_X0_540 : JFL "BracketRoom" 540 8 6 := jflN (host := "BracketRoom") (by decide) (by decide) q980
theorem fl_X0_543 : JFL "BracketRoom" 543 8 7 := jflN (host := "BracketRoom") (by decide) (by decide) q981
theorem fl_X0_546 : JFL "BracketRoom" 546 0 40 := jfl (by decide) (by decide) q508
theorem fl_X0_549 : JFL "BracketRoom" 549 0 41 := jfl (by decide) (by decide) q509
theorem fl_X0_552 : JFL "BracketRoom" 552 0 42 := jfl (by decide) (by decide) q510
theorem fl_X0_564 : JFL "BracketRoom" 564 0 44 := jfl (by decide) (by decide) q512
theorem fl_X0_567 : JFL "BracketRoom" 567 0 45 := jfl (by decide) (by decide) q513
theorem fl_X0_570 : JFL "BracketRoom" 570 0 43 := jfl (by decide) (by decide) q511
theorem fl_X0_573 : JFL "BracketRoom" 573 0 47 := jfl (by decide) (by decide) q515
theorem fl_X0_576 : JFL "BracketRoom" 576 6 0 := jfl (by decide) (by decide) q450
theorem fl_X0_577 : JFL "BracketRoom" 577 6 1 := jfl (by decide) (by decide) q452
theorem fl_X0_578 : JFL "BracketRoom" 578 6 2 := jfl (by decide) (by decide) q454
theorem fl_X0_579 : JFL "BracketRoom" 579 6 3 := jfl (by decide) (by decide) q455
theorem fl_X0_580 : JFL "BracketRoom" 580 6 4 := jfl (by decide) (by decide) q456
theorem fl_X1_9 : JFL "BracketRoom$Scan" 9 1 0 := jfl (by decide) (by decide) q328
theorem fl_X1_15 : JFL "BracketRoom$Scan" 15 1 6 := jfl (by decide) (by decide) q340
theorem fl_X1_19 : JFL "BracketRoom$Scan" 19 1 7 := jfl (by decide) (by decide) q341
theorem fl_X1_22 : JFL "BracketRoom$Scan" 22 1 8 := jfl (by decide) (by decide) q342
theorem fl_X1_26 : JFL "BracketRoom$Scan" 26 1 1 := jfl (by decide) (by decide) q331
theorem fl_X1_30 : JFL "BracketRoom$Scan" 30 1 4 := jfl (by decide) (by decide) q336
theorem fl_X1_50 : JFL "BracketRoom$Scan" 50 1 3 := jfl (by decide) (by decide) q335
theorem fl_X1_53 : JFL "BracketRoom$Scan" 53 1 5 := jfl (by decide) (by decide) q339
theorem fl_X1_56 : JFL "BracketRoom$Scan" 56 1 2 := jfl (by decide) (by decide) q334
theorem fl_X2_13 : JFL "BracketRoom$Reader" 13 1 14 := jfl (by decide) (by decide) q327
theorem fl_X2_47 : JFL "BracketRoom$Reader" 47 3 1 := jflN (host := "BracketRoom") (by decide) (by decide) q388
theorem fl_X2_69 : JFL "BracketRoom$Reader" 69 3 2 := jflN (host := "BracketRoom") (by decide) (by decide) q393
theorem fl_X2_72 : JFL "BracketRoom$Reader" 72 1 2 := jflS (ref := "BracketRoom$Reader") (by decide) (by decide) q333 q332
theorem fl_X2_85 : JFL "BracketRoom$Reader" 85 1 13 := jfl (by decide) (by decide) q326
theorem fl_X2_89 : JFL "BracketRoom$Reader" 89 1 10 := jfl (by decide) (by decide) q321
theorem fl_X2_92 : JFL "BracketRoom$Reader" 92 1 11 := jfl (by decide) (by decide) q323
theorem fl_X2_95 : JFL "BracketRoom$Reader" 95 1 12 := jfl (by decide) (by decide) q325
theorem fl_X2_104 : JFL "BracketRoom$Reader" 104 1 5 := jflS (ref := "BracketRoom$Reader") (by decide) (by decide) q338 q337
theorem fl_X2_107 : JFL "BracketRoom$Reader" 107 8 4 := jflN (host := "BracketRoom") (by decide) (by decide) q975
theorem fl_X2_110 : JFL "BracketRoom$Reader" 110 8 3 := jflN (host := "BracketRoom") (by decide) (by decide) q973
theorem fl_X2_112 : JFL "BracketRoom$Reader" 112 8 5 := jflN (host := "BracketRoom") (by decide) (by decide) q977
theorem fl_X2_115 : JFL "BracketRoom$Reader" 115 8 1 := jflN (host := "BracketRoom") (by decide) (by decide) q969
theorem fl_X2_123 : JFL "BracketRoom$Reader" 123 8 2 := jflN (host := "BracketRoom") (by decide) (by decide) q971
theorem fl_X2_128 : JFL "BracketRoom$Reader" 128 8 6 := jflN (host := "BracketRoom") (by decide) (by decide) q979
theorem fl_X3_7 : JFL "BracketRoom$Wrong" 7 2 6 := jfl (by decide) (by decide) q290
theorem fl_X3_13 : JFL "BracketRoom$Wrong" 13 2 7 := jfl (by decide) (by decide) q292
theorem fl_X4_11 : JFL "BracketRoom$World" 11 3 0 := jfl (by decide) (by decide) q385
theorem fl_X4_16 : JFL "BracketRoom$World" 16 3 1 := jfl (by decide) (by decide) q387
theorem fl_X4_20 : JFL "BracketRoom$World" 20 3 2 := jfl (by decide) (by decide) q391
theorem fl_X5_11 : JFL "BracketRoom$Span" 11 4 0 := jfl (by decide) (by decide) q410
theorem fl_X5_16 : JFL "BracketRoom$Span" 16 4 1 := jfl (by decide) (by decide) q412
theorem fl_X5_20 : JFL "BracketRoom$Span" 20 4 2 := jfl (by decide) (by decide) q414
theorem fl_X5_24 : JFL "BracketRoom$Span" 24 3 2 := jflN (host := "BracketRoom") (by decide) (by decide) q392
theorem fl_X5_46 : JFL "BracketRoom$Span" 46 3 1 := jflN (host := "BracketRoom") (by decide) (by decide) q389
theorem fl_X6_7 : JFL "BracketRoom$Tray" 7 5 0 := jfl (by decide) (by decide) q433
theorem fl_X6_13 : JFL "BracketRoom$Tray" 13 5 1 := jfl (by decide) (by decide) q435
theorem fl_X7_12 : JFL "BracketRoom$Kept" 12 6 0 := jfl (by decide) (by decide) q449
theorem fl_X7_18 : JFL "BracketRoom$Kept" 18 6 1 := jfl (by decide) (by decide) q451
theorem fl_X7_22 : JFL "BracketRoom$Kept" 22 6 2 := jfl (by decide) (by decide) q453
theorem fl_X8_7 : JFL "BracketRoomModel" 7 7 3 := jfl (by decide) (by decide) q1475
theorem fl_X8_13 : JFL "BracketRoomModel" 13 7 4 := jfl (by decide) (by decide) q1476
theorem fl_X8_17 : JFL "BracketRoomModel" 17 7 5 := jfl (by decide) (by decide) q1477
theorem fl_X8_20 : JFL "BracketRoomModel" 20 7 6 := jfl (by decide) (by decide) q1478
theorem fl_X8_24 : JFL "BracketRoomModel" 24 7 7 := jfl (by decide) (by decide) q1479
theorem fl_X8_28 : JFL "BracketRoomModel" 28 7 10 := jfl (by decide) (by decide) q1482
theorem fl_X8_32 : JFL "BracketRoomModel" 32 7 11 := jfl (by decide) (by decide) q1483
theorem fl_X8_35 : JFL "BracketRoomModel" 35 7 19 := jfl (by decide) (by decide) q1491
theorem fl_X8_38 : JFL "BracketRoomModel" 38 7 20 := jfl (by decide) (by decide) q1492
theorem fl_X8_41 : JFL "BracketRoomModel" 41 7 21 := jfl (by decide) (by decide) q1493
theorem fl_X8_44 : JFL "BracketRoomModel" 44 7 22 := jfl (by decide) (by decide) q1494
theorem fl_X8_47 : JFL "BracketRoomModel" 47 7 28 := jfl (by decide) (by decide) q1500
theorem fl_X8_50 : JFL "BracketRoomModel" 50 7 29 := jfl (by decide) (by decide) q1501
theorem fl_X8_53 : JFL "BracketRoomModel" 53 7 30 := jfl (by decide) (by decide) q1502
theorem fl_X8_56 : JFL "BracketRoomModel" 56 7 31 := jfl (by decide) (by decide) q1503
theorem fl_X8_59 : JFL "BracketRoomModel" 59 7 32 := jfl (by decide) (by decide) q1504
theorem fl_X8_62 : JFL "BracketRoomModel" 62 7 33 := jfl (by decide) (by decide) q1505
theorem fl_X8_65 : JFL "BracketRoomModel" 65 7 34 := jfl (by decide) (by decide) q1506
theorem fl_X8_68 : JFL "BracketRoomModel" 68 7 35 := jfl (by decide) (by decide) q1507
theorem fl_X8_71 : JFL "BracketRoomModel" 71 7 36 := jfl (by decide) (by decide) q1508
theorem fl_X8_74 : JFL "BracketRoomModel" 74 7 37 := jfl (by decide) (by decide) q1509
theorem fl_X8_77 : JFL "BracketRoomModel" 77 7 38 := jfl (by decide) (by decide) q1510
theorem fl_X8_80 : JFL "BracketRoomModel" 80 7 40 := jfl (by decide) (by decide) q1512
theorem fl_X8_83 : JFL "BracketRoomModel" 83 7 41 := jfl (by decide) (by decide) q1513
theorem fl_X8_86 : JFL "BracketRoomModel" 86 7 42 := jfl (by decide) (by decide) q1514
theorem fl_X8_89 : JFL "BracketRoomModel" 89 7 44 := jfl (by decide) (by decide) q1516
theorem fl_X8_92 : JFL "BracketRoomModel" 92 7 48 := jfl (by decide) (by decide) q1520
theorem fl_X8_95 : JFL "BracketRoomModel" 95 7 54 := jfl (by decide) (by decide) q1526
theorem fl_X8_98 : JFL "BracketRoomModel" 98 7 55 := jfl (by decide) (by decide) q1527
theorem fl_X8_101 : JFL "BracketRoomModel" 101 7 56 := jfl (by decide) (by decide) q1528
theorem fl_X8_104 : JFL "BracketRoomModel" 104 7 57 := jfl (by decide) (by decide) q1529
theorem fl_X8_107 : JFL "BracketRoomModel" 107 7 58 := jfl (by decide) (by decide) q1530
theorem fl_X8_110 : JFL "BracketRoomModel" 110 7 61 := jfl (by decide) (by decide) q1533
theorem fl_X8_113 : JFL "BracketRoomModel" 113 7 62 := jfl (by decide) (by decide) q1534
theorem fl_X8_116 : JFL "BracketRoomModel" 116 7 63 := jfl (by decide) (by decide) q1535
theorem fl_X8_119 : JFL "BracketRoomModel" 119 7 66 := jfl (by decide) (by decide) q1538
theorem fl_X8_122 : JFL "BracketRoomModel" 122 7 67 := jfl (by decide) (by decide) q1539
theorem fl_X8_125 : JFL "BracketRoomModel" 125 7 68 := jfl (by decide) (by decide) q1540
theorem fl_X8_129 : JFL "BracketRoomModel" 129 7 69 := jfl (by decide) (by decide) q1541
theorem fl_X8_132 : JFL "BracketRoomModel" 132 7 1 := jfl (by decide) (by decide) q1473
theorem fl_X8_135 : JFL "BracketRoomModel" 135 7 0 := jfl (by decide) (by decide) q1472
theorem fl_X8_138 : JFL "BracketRoomModel" 138 7 2 := jfl (by decide) (by decide) q1474
theorem fl_X8_171 : JFL "BracketRoomModel" 171 7 9 := jfl (by decide) (by decide) q1481
theorem fl_X8_174 : JFL "BracketRoomModel" 174 7 16 := jfl (by decide) (by decide) q1488
theorem fl_X8_177 : JFL "BracketRoomModel" 177 7 15 := jfl (by decide) (by decide) q1487
theorem fl_X8_183 : JFL "BracketRoomModel" 183 7 14 := jfl (by decide) (by decide) q1486
theorem fl_X8_189 : JFL "BracketRoomModel" 189 7 18 := jfl (by decide) (by decide) q1490
theorem fl_X8_199 : JFL "BracketRoomModel" 199 7 17 := jfl (by decide) (by decide) q1489
theorem fl_X8_221 : JFL "BracketRoomModel" 221 7 12 := jfl (by decide) (by decide) q1484
theorem fl_X8_224 : JFL "BracketRoomModel" 224 7 13 := jfl (by decide) (by decide) q1485
theorem fl_X8_237 : JFL "BracketRoomModel" 237 7 8 := jfl (by decide) (by decide) q1480
theorem fl_X8_244 : JFL "BracketRoomModel" 244 7 24 := jfl (by decide) (by decide) q1496
theorem fl_X8_247 : JFL "BracketRoomModel" 247 7 25 := jfl (by decide) (by decide) q1497
theorem fl_X8_250 : JFL "BracketRoomModel" 250 7 26 := jfl (by decide) (by decide) q1498
theorem fl_X8_253 : JFL "BracketRoomModel" 253 7 27 := jfl (by decide) (by decide) q1499
theorem fl_X8_423 : JFL "BracketRoomModel" 423 7 39 := jfl (by decide) (by decide) q1511
theorem fl_X8_442 : JFL "BracketRoomModel" 442 7 59 := jfl (by decide) (by decide) q1531
theorem fl_X8_445 : JFL "BracketRoomModel" 445 7 60 := jfl (by decide) (by decide) q1532
theorem fl_X8_536 : JFL "BracketRoomModel" 536 7 64 := jfl (by decide) (by decide) q1536
theorem fl_X8_539 : JFL "BracketRoomModel" 539 7 65 := jfl (by decide) (by decide) q1537
theorem fl_X8_545 : JFL "BracketRoomModel" 545 7 45 := jfl (by decide) (by decide) q1517
theorem fl_X8_548 : JFL "BracketRoomModel" 548 7 46 := jfl (by decide) (by decide) q1518
theorem fl_X8_552 : JFL "BracketRoomModel" 552 7 47 := jfl (by decide) (by decide) q1519
theorem fl_X8_555 : JFL "BracketRoomModel" 555 7 43 := jfl (by decide) (by decide) q1515
theorem fl_X8_649 : JFL "BracketRoomModel" 649 7 70 := jfl (by decide) (by decide) q1542
theorem fl_X8_667 : JFL "BracketRoomModel" 667 7 51 := jfl (by decide) (by decide) q1523
theorem fl_X8_670 : JFL "BracketRoomModel" 670 7 53 := jfl (by decide) (by decide) q1525
theorem fl_X8_673 : JFL "BracketRoomModel" 673 7 50 := jfl (by decide) (by decide) q1522
theorem fl_X8_685 : JFL "BracketRoomModel" 685 7 52 := jfl (by decide) (by decide) q1524
theorem fl_X8_691 : JFL "BracketRoomModel" 691 7 49 := jfl (by decide) (by decide) q1521
theorem fl_X8_694 : JFL "BracketRoomModel" 694 7 23 := jfl (by decide) (by decide) q1495
theorem fl_X9_7 : JFL "BracketRoom$Step" 7 8 0 := jfl (by decide) (by decide) q967
