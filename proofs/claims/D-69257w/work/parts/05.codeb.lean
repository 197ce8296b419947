/-! the pure code of methods: mN: method N = 64 * (number of its class) + place; bN_j: its block j -/
def b1344_0 : List Instr := [.aload 0, .f2i, .aload 0, .sipush 24, .newarray .int, .putfield 21523, .aload 0, .sipush 24, .newarray .int, .putfield 21531, .aload 0, .aload 1, .putfield 21507, .aload 0, .aload 2, .putfield 21515, .aload 0, .invokeinterface 1345 1, .return_]
/-- TimberHouse$WorkPlans$Board.<init>(Ljava/util/ArrayList;Ljava/util/ArrayList;)V -/
def m1344 : pm_M := (fun j => [b1344_0].getD j [], fun _ => [], 21, 3)
def b1345_0 : List Instr := [.sipush 0, .istore 1, .goto_w 1]
def b1345_1 : List Instr := [.iload 1, .sipush 24, .if_icmp .ge 2, .aload 0, .getfield 21531, .iload 1, .sipush (-1), .iastore, .iinc 1 1, .goto 1]
def b1345_2 : List Instr := [.return_]
/-- TimberHouse$WorkPlans$Board.clear()V -/
def m1345 : pm_M := (fun j => [b1345_0, b1345_1, b1345_2].getD j [], fun _ => [], 21, 2)
def b1346_0 : List Instr := [.sipush 0, .istore 2, .sipush 0, .istore 3, .sipush 0, .istore 4, .goto_w 1]
def b1346_1 : List Instr := [.iload 4, .aload 1, .getfield 55315, .invokeinterface 4033 1, .if_icmp .ge 6, .aload 1, .getfield 55315, .iload 4, .invokeinterface 4034 2, .checkcast 55, .astore 5, .sipush 2147483647, .istore 6, .sipush (-1), .istore 7, .sipush 0, .istore 8, .goto_w 2]
def b1346_2 : List Instr := [.iload 8, .aload 0, .getfield 21507, .invokeinterface 4033 1, .if_icmp .ge 5, .aload 0, .getfield 21507, .iload 8, .invokeinterface 4034 2, .checkcast 52, .getfield 53248, .aload 5, .getfield 56328, .if_icmp .eq 3, .goto 4]
def b1346_3 : List Instr := [.aload 0, .iload 8, .iload 2, .aload 5, .getfield 56336, .invokeinterface 1347 4, .istore 9, .iload 9, .iload 6, .if_icmp .ge 4, .iload 9, .istore 6, .iload 8, .istore 7, .goto_w 4]
def b1346_4 : List Instr := [.iinc 8 1, .goto 2]
def b1346_5 : List Instr := [.aload 0, .getfield 21523, .aload 5, .getfield 56320, .iload 6, .iastore, .aload 0, .getfield 21531, .aload 5, .getfield 56320, .iload 7, .iastore, .iload 6, .aload 5, .getfield 56336, .iadd, .istore 3, .iload 3, .aload 5, .getfield 56344, .iadd, .istore 2, .iinc 4 1, .goto 1]
def b1346_6 : List Instr := [.iload 3, .jsr 0]
/-- TimberHouse$WorkPlans$Board.put(LTimberHouse$WorkPlans$Job;)I -/
def m1346 : pm_M := (fun j => [b1346_0, b1346_1, b1346_2, b1346_3, b1346_4, b1346_5, b1346_6].getD j [], fun _ => [], 21, 10)
def b1347_0 : List Instr := [.iload 2, .istore 4, .iload 4, .istore 5, .goto_w 1]
def b1347_1 : List Instr := [.iload 5, .sipush (-1), .if_icmp .eq 2, .iload 5, .istore 4, .aload 0, .iload 1, .iload 4, .iload 3, .invokeinterface 1348 4, .aload 0, .getfield 21507, .iload 1, .invokeinterface 4034 2, .checkcast 52, .iload 4, .iload 3, .invokeinterface 3329 3, .invokeinterface 3841 2, .istore 5, .goto 1]
def b1347_2 : List Instr := [.iload 4, .jsr 0]
/-- TimberHouse$WorkPlans$Board.first(III)I -/
def m1347 : pm_M := (fun j => [b1347_0, b1347_1, b1347_2].getD j [], fun _ => [], 21, 6)
def b1348_0 : List Instr := [.sipush 0, .istore 4, .goto_w 1]
def b1348_1 : List Instr := [.iload 4, .aload 0, .getfield 21515, .invokeinterface 4033 1, .if_icmp .ge 3, .aload 0, .getfield 21515, .iload 4, .invokeinterface 4034 2, .checkcast 55, .astore 5, .aload 0, .getfield 21531, .iload 4, .iaload, .iload 1, .if_icmp .ne 2, .iload 2, .aload 0, .getfield 21523, .iload 4, .iaload, .aload 5, .getfield 56336, .iadd, .if_icmp .ge 2, .aload 0, .getfield 21523, .iload 4, .iaload, .iload 2, .iload 3, .iadd, .if_icmp .ge 2, .aload 0, .getfield 21523, .iload 4, .iaload, .aload 5, .getfield 56336, .iadd, .jsr 0]
def b1348_2 : List Instr := [.iinc 4 1, .goto 1]
def b1348_3 : List Instr := [.sipush (-1), .jsr 0]
/-- TimberHouse$WorkPlans$Board.busyTo(III)I -/
def m1348 : pm_M := (fun j => [b1348_0, b1348_1, b1348_2, b1348_3].getD j [], fun _ => [], 21, 6)
def b1349_0 : List Instr := [.aload 0, .invokeinterface 1345 1, .sipush 0, .istore 3, .sipush 0, .istore 4, .goto_w 1]
def b1349_1 : List Instr := [.iload 4, .aload 2, .invokeinterface 4033 1, .if_icmp .ge 2, .aload 2, .aload 1, .iload 4, .iaload, .invokeinterface 4034 2, .checkcast 54, .astore 5, .iload 3, .aload 5, .aload 0, .aload 5, .invokeinterface 1346 2, .invokeinterface 3457 2, .iadd, .istore 3, .iinc 4 1, .goto 1]
def b1349_2 : List Instr := [.iload 3, .jsr 0]
/-- TimberHouse$WorkPlans$Board.putAll([ILjava/util/ArrayList;)I -/
def m1349 : pm_M := (fun j => [b1349_0, b1349_1, b1349_2].getD j [], fun _ => [], 21, 6)
def b1350_0 : List Instr := [.sipush 0, .istore 2, .goto_w 1]
def b1350_1 : List Instr := [.iload 2, .aload 1, .getfield 55315, .invokeinterface 4033 1, .if_icmp .ge 2, .aload 0, .getfield 21531, .aload 1, .getfield 55315, .iload 2, .invokeinterface 4034 2, .checkcast 55, .getfield 56320, .sipush (-1), .iastore, .iinc 2 1, .goto 1]
def b1350_2 : List Instr := [.return_]
/-- TimberHouse$WorkPlans$Board.take(LTimberHouse$WorkPlans$Job;)V -/
def m1350 : pm_M := (fun j => [b1350_0, b1350_1, b1350_2].getD j [], fun _ => [], 21, 3)
def b1351_0 : List Instr := [.aload 1, .getfield 21523, .sipush 0, .aload 0, .getfield 21523, .sipush 0, .sipush 24, .monitorenter, .aload 1, .getfield 21531, .sipush 0, .aload 0, .getfield 21531, .sipush 0, .sipush 24, .monitorenter, .return_]
/-- TimberHouse$WorkPlans$Board.copy(LTimberHouse$WorkPlans$Board;)V -/
def m1351 : pm_M := (fun j => [b1351_0].getD j [], fun _ => [], 21, 2)
def b1352_0 : List Instr := [.aload 1, .getfield 55315, .invokeinterface 4040 1, .ifCond .eq 1, .sipush 0, .jsr 0]
def b1352_1 : List Instr := [.aload 1, .getfield 55315, .aload 1, .getfield 55315, .invokeinterface 4033 1, .sipush 1, .isub, .invokeinterface 4034 2, .checkcast 55, .astore 2, .aload 0, .getfield 21531, .aload 2, .getfield 56320, .iaload, .sipush (-1), .if_icmp .ne 2, .sipush 0, .goto 3]
def b1352_2 : List Instr := [.aload 0, .getfield 21523, .aload 2, .getfield 56320, .iaload, .aload 2, .getfield 56336, .iadd, .goto_w 3]
def b1352_3 : List Instr := [.jsr 0]
/-- TimberHouse$WorkPlans$Board.end(LTimberHouse$WorkPlans$Job;)I -/
def m1352 : pm_M := (fun j => [b1352_0, b1352_1, b1352_2, b1352_3].getD j [], fun _ => [], 21, 3)
def b1408_0 : List Instr := [.aload 0, .f2i, .aload 0, .sipush 240, .newarray .byte, .putfield 22531, .aload 0, .sipush 16, .anewarray 5, .putfield 22579, .aload 0, .sipush 16, .anewarray 5, .putfield 22587, .aload 0, .sipush 240, .newarray .int, .putfield 22603, .aload 0, .sipush 26, .anewarray 6, .putfield 22611, .aload 0, .sipush 6, .anewarray 6, .putfield 22619, .aload 0, .new 23, .dup, .invokeinterface 1472 1, .putfield 22635, .aload 0, .new 23, .dup, .invokeinterface 1472 1, .putfield 22643, .aload 0, .new 23, .dup, .invokeinterface 1472 1, .putfield 22651, .aload 0, .sipush 16, .anewarray 6, .putfield 22659, .aload 0, .sipush 16, .newarray .int, .putfield 22667, .aload 0, .sipush 16, .newarray .int, .putfield 22675, .aload 0, .sipush 8, .sipush 3, .multianewarray 7 2, .putfield 22683, .aload 0, .sipush 8, .newarray .long, .putfield 22699, .aload 0, .sipush 8, .newarray .int, .putfield 22707, .aload 0, .sipush 8, .newarray .long, .putfield 22723, .aload 0, .sipush 8, .newarray .long, .putfield 22739, .aload 0, .sipush 8, .newarray .int, .putfield 22747, .sipush 0, .istore 1, .goto_w 1]
def b1408_1 : List Instr := [.iload 1, .sipush 6, .if_icmp .ge 2, .aload 0, .getfield 22619, .iload 1, .new 23, .dup, .invokeinterface 1472 1, .aastore, .iinc 1 1, .goto 1]
def b1408_2 : List Instr := [.sipush 0, .istore 1, .goto_w 3]
def b1408_3 : List Instr := [.iload 1, .sipush 16, .if_icmp .ge 4, .aload 0, .getfield 22659, .iload 1, .new 23, .dup, .invokeinterface 1472 1, .aastore, .iinc 1 1, .goto 3]
def b1408_4 : List Instr := [.return_]
/-- TimberHouse$PriceLines.<init>()V -/
def m1408 : pm_M := (fun j => [b1408_0, b1408_1, b1408_2, b1408_3, b1408_4].getD j [], fun _ => [], 22, 2)
def b1409_0 : List Instr := [.iload 1, .invokeinterface 1410 1, .istore 4, .iload 2, .iload 3, .invokeinterface 1413 2, .new 23, .dup, .invokeinterface 1472 1, .astore 5, .aload 5, .iload 2, .i2l, .iload 3, .i2l, .invokeinterface 1473 3, .istore 6, .aload 0, .getfield 22611, .iload 4, .aload 5, .aastore, .return_]
/-- TimberHouse$PriceLines.fact(III)V -/
def m1409 : pm_M := (fun j => [b1409_0].getD j [], fun _ => [], 22, 7)
def b1410_0 : List Instr := [.iload 0, .i2l, .bipush 97, .bipush 122, .invokeinterface 1411 3, .ifCond .eq 1, .iload 0, .sipush 114, .if_icmp .eq 1, .sipush 1, .goto 2]
def b1410_1 : List Instr := [.sipush 0, .goto_w 2]
def b1410_2 : List Instr := [.invokeinterface 1412 1, .iload 0, .sipush 97, .isub, .jsr 0]
/-- TimberHouse$PriceLines.letter(I)I -/
def m1410 : pm_M := (fun j => [b1410_0, b1410_1, b1410_2].getD j [], fun _ => [], 0, 1)
def b1411_0 : List Instr := [.lload 0, .lload 2, .lcmp, .ifCond .lt 1, .lload 0, .lload 4, .lcmp, .ifCond .gt 1, .sipush 1, .goto 2]
def b1411_1 : List Instr := [.sipush 0, .goto_w 2]
def b1411_2 : List Instr := [.jsr 2]
/-- TimberHouse$PriceLines.isIn(JJJ)Z -/
def m1411 : pm_M := (fun j => [b1411_0, b1411_1, b1411_2].getD j [], fun _ => [], 0, 6)
def b1412_0 : List Instr := [.iload 0, .ifCond .ne 1, .ret 67, .athrow]
def b1412_1 : List Instr := [.return_]
/-- TimberHouse$PriceLines.there(Z)V -/
def m1412 : pm_M := (fun j => [b1412_0, b1412_1].getD j [], fun _ => [], 0, 1)
def b1413_0 : List Instr := [.iload 1, .i2l, .bipush 1, .bipush 10000, .invokeinterface 1411 3, .ifCond .eq 1, .iload 0, .i2l, .bipush (-1000000), .bipush 1000000, .invokeinterface 1411 3, .ifCond .eq 1, .sipush 1, .goto 2]
def b1413_1 : List Instr := [.sipush 0, .goto_w 2]
def b1413_2 : List Instr := [.invokeinterface 1414 1, .return_]
/-- TimberHouse$PriceLines.properFact(II)V -/
def m1413 : pm_M := (fun j => [b1413_0, b1413_1, b1413_2].getD j [], fun _ => [], 0, 2)
def b1414_0 : List Instr := [.iload 0, .ifCond .ne 1, .ret 70, .athrow]
def b1414_1 : List Instr := [.return_]
/-- TimberHouse$PriceLines.proper(Z)V -/
def m1414 : pm_M := (fun j => [b1414_0, b1414_1].getD j [], fun _ => [], 0, 1)
def b1415_0 : List Instr := [.lload 0, .bipush 0, .lcmp, .ifCond .ge 1, .lload 0, .lneg, .goto 2]
def b1415_1 : List Instr := [.lload 0, .goto_w 2]
def b1415_2 : List Instr := [.lstore 4, .lload 2, .lstore 6, .goto_w 3]
def b1415_3 : List Instr := [.lload 6, .bipush 0, .lcmp, .ifCond .eq 4, .lload 4, .lload 6, .lrem, .lstore 8, .lload 6, .lstore 4, .lload 8, .lstore 6, .goto 3]
def b1415_4 : List Instr := [.lload 4, .lreturn]
/-- TimberHouse$PriceLines.divisor(JJ)J -/
def m1415 : pm_M := (fun j => [b1415_0, b1415_1, b1415_2, b1415_3, b1415_4].getD j [], fun _ => [], 0, 10)
def b1416_0 : List Instr := [.iload 1, .invokeinterface 1410 1, .istore 2, .aload 0, .getfield 22611, .iload 2, .aaload, .ifnull 1, .sipush 1, .goto 2]
def b1416_1 : List Instr := [.sipush 0, .goto_w 2]
def b1416_2 : List Instr := [.istore 3, .aload 0, .getfield 22611, .iload 2, .aconst_null, .aastore, .iload 3, .jsr 2]
/-- TimberHouse$PriceLines.forget(I)Z -/
def m1416 : pm_M := (fun j => [b1416_0, b1416_1, b1416_2].getD j [], fun _ => [], 22, 4)
def b1417_0 : List Instr := [.iload 1, .i2l, .bipush 0, .aload 0, .getfield 22712, .sipush 1, .isub, .i2l, .invokeinterface 1411 3, .invokeinterface 1412 1, .iload 2, .i2l, .bipush 0, .bipush 10000, .invokeinterface 1411 3, .invokeinterface 1414 1, .iload 2, .aload 0, .getfield 22707, .iload 1, .iaload, .if_icmp .gt 1, .sipush 1, .goto 2]
def b1417_1 : List Instr := [.sipush 0, .goto_w 2]
def b1417_2 : List Instr := [.invokeinterface 1418 1, .aload 0, .getfield 22699, .iload 1, .laload, .lreturn]
/-- TimberHouse$PriceLines.offered(II)J -/
def m1417 : pm_M := (fun j => [b1417_0, b1417_1, b1417_2].getD j [], fun _ => [], 22, 3)
def b1418_0 : List Instr := [.iload 0, .ifCond .ne 1, .ret 71, .athrow]
def b1418_1 : List Instr := [.return_]
/-- TimberHouse$PriceLines.can(Z)V -/
def m1418 : pm_M := (fun j => [b1418_0, b1418_1].getD j [], fun _ => [], 0, 1)
def b1419_0 : List Instr := [.iload 1, .i2l, .bipush 32, .bipush 126, .invokeinterface 1411 3, .ifCond .eq 1, .aload 0, .getfield 22536, .sipush 240, .if_icmp .ne 2, .goto_w 1]
def b1419_1 : List Instr := [.sipush 0, .jsr 2]
def b1419_2 : List Instr := [.aload 0, .getfield 22531, .aload 0, .dup, .getfield 22536, .dup_x1, .sipush 1, .iadd, .putfield 22536, .iload 1, .i2b, .bastore, .sipush 1, .jsr 2]
/-- TimberHouse$PriceLines.unit(I)Z -/
def m1419 : pm_M := (fun j => [b1419_0, b1419_1, b1419_2].getD j [], fun _ => [], 22, 2)
def b1420_0 : List Instr := [.sipush 0, .istore 1, .aload 0, .sipush 0, .putfield 22544, .goto_w 1]
def b1420_1 : List Instr := [.aload 0, .iload 1, .sipush 16, .if_icmp .ge 2, .sipush 1, .goto 3]
def b1420_2 : List Instr := [.sipush 0, .goto_w 3]
def b1420_3 : List Instr := [.invokeinterface 1421 2, .aload 0, .getfield 22579, .iload 1, .aload 0, .invokeinterface 1422 1, .aastore, .iinc 1 1, .aload 0, .invokeinterface 1428 1, .aload 0, .getfield 22544, .aload 0, .getfield 22536, .if_icmp .lt 1, .goto_w 4]
def b1420_4 : List Instr := [.goto 6]
def b1420_5 : List Instr := [.aload 0, .sipush 0, .putfield 22536, .sipush (-1), .aload 0, .getfield 22552, .isub, .jsr 0]
def b1420_6 : List Instr := [.aload 0, .sipush 0, .putfield 22536, .aload 0, .iload 1, .putfield 22592, .sipush 0, .istore 2, .goto_w 7]
def b1420_7 : List Instr := [.iload 2, .iload 1, .if_icmp .ge 8, .aload 0, .getfield 22587, .iload 2, .aload 0, .getfield 22579, .iload 2, .aaload, .aastore, .iinc 2 1, .goto 7]
def b1420_8 : List Instr := [.iload 1, .jsr 0]
/-- TimberHouse$PriceLines.read()I -/
def m1420 : pm_M := (fun j => [b1420_0, b1420_1, b1420_2, b1420_3, b1420_4, b1420_5, b1420_6, b1420_7, b1420_8].getD j [], fun j => [[], [([71], 5, 2)], [([71], 5, 2)], [([71], 5, 2)], [], [], [], [], []].getD j [], 22, 3)
def b1421_0 : List Instr := [.iload 1, .ifCond .ne 1, .aload 0, .aload 0, .getfield 22544, .putfield 22552, .ret 71, .athrow]
def b1421_1 : List Instr := [.return_]
/-- TimberHouse$PriceLines.need(Z)V -/
def m1421 : pm_M := (fun j => [b1421_0, b1421_1].getD j [], fun _ => [], 22, 2)
def b1422_0 : List Instr := [.sipush 0, .istore 1, .sipush 0, .istore 2, .goto_w 1]
def b1422_1 : List Instr := [.aload 0, .invokeinterface 1423 1, .istore 3, .iload 3, .sipush 32, .if_icmp .ne 2, .aload 0, .dup, .getfield 22544, .sipush 1, .iadd, .putfield 22544, .goto 1]
def b1422_2 : List Instr := [.iload 3, .sipush 59, .if_icmp .eq 3, .iload 3, .sipush 37, .if_icmp .eq 3, .iload 3, .sipush 61, .if_icmp .ne 6, .goto_w 3]
def b1422_3 : List Instr := [.aload 0, .iload 2, .sipush 1, .if_icmp .ne 4, .sipush 1, .goto 5]
def b1422_4 : List Instr := [.sipush 0, .goto_w 5]
def b1422_5 : List Instr := [.invokeinterface 1421 2, .aload 0, .dup, .getfield 22544, .sipush 1, .iadd, .putfield 22544, .new 56, .dup, .aload 0, .getfield 22603, .iload 1, .iload 3, .invokeinterface 3584 4, .areturn]
def b1422_6 : List Instr := [.iload 3, .invokeinterface 1424 1, .ifCond .ne 7, .iload 3, .invokeinterface 1425 1, .ifCond .eq 8, .goto_w 7]
def b1422_7 : List Instr := [.sipush 1, .goto 9]
def b1422_8 : List Instr := [.sipush 0, .goto_w 9]
def b1422_9 : List Instr := [.istore 4, .aload 0, .iload 4, .ifCond .eq 11, .iload 2, .sipush 6, .if_icmp .ge 10, .sipush 1, .goto 15]
def b1422_10 : List Instr := [.sipush 0, .goto 15]
def b1422_11 : List Instr := [.iload 3, .sipush 114, .if_icmp .ne 13, .iload 2, .sipush 1, .if_icmp .lt 12, .sipush 1, .goto 15]
def b1422_12 : List Instr := [.sipush 0, .goto 15]
def b1422_13 : List Instr := [.iload 3, .invokeinterface 1426 1, .ifCond .eq 14, .iload 2, .sipush 2, .if_icmp .lt 14, .sipush 1, .goto 15]
def b1422_14 : List Instr := [.sipush 0, .goto_w 15]
def b1422_15 : List Instr := [.invokeinterface 1421 2, .iload 2, .iload 4, .ifCond .eq 16, .sipush 1, .goto 18]
def b1422_16 : List Instr := [.iload 3, .sipush 114, .if_icmp .ne 17, .sipush 0, .goto 18]
def b1422_17 : List Instr := [.sipush (-1), .goto_w 18]
def b1422_18 : List Instr := [.iadd, .istore 2, .iload 3, .invokeinterface 1424 1, .ifCond .eq 19, .aload 0, .getfield 22603, .iload 1, .iinc 1 1, .aload 0, .invokeinterface 1427 1, .iastore, .goto 20]
def b1422_19 : List Instr := [.aload 0, .getfield 22603, .iload 1, .iinc 1 1, .iload 3, .ineg, .iastore, .aload 0, .dup, .getfield 22544, .sipush 1, .iadd, .putfield 22544, .goto_w 20]
def b1422_20 : List Instr := [.goto 1]
/-- TimberHouse$PriceLines.readLine()LTimberHouse$PriceLines$Line; -/
def m1422 : pm_M := (fun j => [b1422_0, b1422_1, b1422_2, b1422_3, b1422_4, b1422_5, b1422_6, b1422_7, b1422_8, b1422_9, b1422_10, b1422_11, b1422_12, b1422_13, b1422_14, b1422_15, b1422_16, b1422_17, b1422_18, b1422_19, b1422_20].getD j [], fun _ => [], 22, 5)
def b1423_0 : List Instr := [.aload 0, .getfield 22544, .aload 0, .getfield 22536, .if_icmp .ge 1, .aload 0, .getfield 22531, .aload 0, .getfield 22544, .baload, .i2c, .goto 2]
def b1423_1 : List Instr := [.sipush 0, .goto_w 2]
def b1423_2 : List Instr := [.jsr 4]
/-- TimberHouse$PriceLines.look()C -/
def m1423 : pm_M := (fun j => [b1423_0, b1423_1, b1423_2].getD j [], fun _ => [], 22, 1)
def b1424_0 : List Instr := [.iload 0, .sipush 48, .if_icmp .lt 1, .iload 0, .sipush 57, .if_icmp .gt 1, .sipush 1, .goto 2]
def b1424_1 : List Instr := [.sipush 0, .goto_w 2]
def b1424_2 : List Instr := [.jsr 2]
/-- TimberHouse$PriceLines.isDigit(C)Z -/
def m1424 : pm_M := (fun j => [b1424_0, b1424_1, b1424_2].getD j [], fun _ => [], 0, 1)
def b1425_0 : List Instr := [.iload 0, .sipush 97, .if_icmp .lt 1, .iload 0, .sipush 122, .if_icmp .gt 1, .iload 0, .sipush 114, .if_icmp .eq 1, .sipush 1, .goto 2]
def b1425_1 : List Instr := [.sipush 0, .goto_w 2]
def b1425_2 : List Instr := [.jsr 2]
/-- TimberHouse$PriceLines.isLetter(C)Z -/
def m1425 : pm_M := (fun j => [b1425_0, b1425_1, b1425_2].getD j [], fun _ => [], 0, 1)
def b1426_0 : List Instr := [.iload 0, .sipush 43, .if_icmp .eq 1, .iload 0, .sipush 45, .if_icmp .eq 1, .iload 0, .sipush 42, .if_icmp .eq 1, .iload 0, .sipush 47, .if_icmp .eq 1, .iload 0, .sipush 60, .if_icmp .eq 1, .iload 0, .sipush 62, .if_icmp .ne 2, .goto_w 1]
def b1426_1 : List Instr := [.sipush 1, .goto 3]
def b1426_2 : List Instr := [.sipush 0, .goto_w 3]
def b1426_3 : List Instr := [.jsr 2]
/-- TimberHouse$PriceLines.isJoining(C)Z -/
def m1426 : pm_M := (fun j => [b1426_0, b1426_1, b1426_2, b1426_3].getD j [], fun _ => [], 0, 1)
def b1427_0 : List Instr := [.sipush 0, .istore 1, .sipush 0, .istore 2, .goto_w 1]
def b1427_1 : List Instr := [.aload 0, .invokeinterface 1423 1, .invokeinterface 1424 1, .ifCond .eq 4, .aload 0, .iload 2, .sipush 5, .if_icmp .ge 2, .sipush 1, .goto 3]
def b1427_2 : List Instr := [.sipush 0, .goto_w 3]
def b1427_3 : List Instr := [.invokeinterface 1421 2, .sipush 10, .iload 1, .imul, .aload 0, .invokeinterface 1423 1, .iadd, .sipush 48, .isub, .istore 1, .iinc 2 1, .aload 0, .dup, .getfield 22544, .sipush 1, .iadd, .putfield 22544, .goto 1]
def b1427_4 : List Instr := [.iload 1, .jsr 0]
/-- TimberHouse$PriceLines.number()I -/
def m1427 : pm_M := (fun j => [b1427_0, b1427_1, b1427_2, b1427_3, b1427_4].getD j [], fun _ => [], 22, 3)
def b1428_0 : List Instr := [.aload 0, .invokeinterface 1423 1, .sipush 32, .if_icmp .ne 1, .aload 0, .dup, .getfield 22544, .sipush 1, .iadd, .putfield 22544, .goto 0]
def b1428_1 : List Instr := [.return_]
/-- TimberHouse$PriceLines.skip()V -/
def m1428 : pm_M := (fun j => [b1428_0, b1428_1].getD j [], fun _ => [], 22, 1)
def b1429_0 : List Instr := [.aload 0, .invokeinterface 1430 1, .jsr 0]
/-- TimberHouse$PriceLines.run()I -/
def m1429 : pm_M := (fun j => [b1429_0].getD j [], fun _ => [], 22, 1)
def b1430_0 : List Instr := [.sipush 0, .istore 1, .aload 0, .getfield 22635, .bipush 0, .bipush 1, .invokeinterface 1473 3, .istore 2, .sipush 0, .istore 3, .goto_w 1]
def b1430_1 : List Instr := [.iload 3, .aload 0, .getfield 22592, .if_icmp .ge 3, .aload 0, .getfield 22667, .iload 3, .sipush 0, .iastore, .aload 0, .getfield 22675, .iload 3, .sipush (-1), .iastore, .aload 0, .aload 0, .getfield 22587, .iload 3, .aaload, .aload 0, .getfield 22659, .iload 3, .aaload, .invokeinterface 1431 3, .ifCond .ne 2, .aload 0, .getfield 22667, .iload 3, .aload 0, .getfield 22560, .iastore, .aload 0, .getfield 22675, .iload 3, .aload 0, .getfield 22568, .iastore, .aload 0, .getfield 22659, .iload 3, .aaload, .bipush 0, .bipush 1, .invokeinterface 1473 3, .istore 2, .iinc 1 1, .goto_w 2]
def b1430_2 : List Instr := [.iinc 3 1, .goto 1]
def b1430_3 : List Instr := [.iload 1, .jsr 0]
/-- TimberHouse$PriceLines.runAll()I -/
def m1430 : pm_M := (fun j => [b1430_0, b1430_1, b1430_2, b1430_3].getD j [], fun _ => [], 22, 4)
def b1431_0 : List Instr := [.aload 0, .sipush 0, .putfield 22624, .aload 1, .getfield 57347, .arraylength, .istore 3, .sipush 0, .istore 4, .goto_w 1]
def b1431_1 : List Instr := [.iload 4, .iload 3, .if_icmp .ge 3, .aload 0, .aload 1, .getfield 57347, .iload 4, .iaload, .invokeinterface 1432 2, .istore 5, .iload 5, .ifCond .eq 2, .aload 0, .iload 5, .iload 4, .invokeinterface 1434 3, .jsr 2]
def b1431_2 : List Instr := [.iinc 4 1, .goto 1]
def b1431_3 : List Instr := [.aload 0, .getfield 22619, .sipush 0, .aaload, .astore 4, .aload 0, .getfield 22643, .aload 4, .getfield 23553, .aload 4, .getfield 23561, .invokeinterface 1473 3, .istore 5, .aload 1, .getfield 57356, .sipush 37, .if_icmp .ne 6, .aload 0, .getfield 22651, .bipush 100, .bipush 1, .invokeinterface 1473 3, .istore 5, .aload 0, .getfield 22643, .sipush 47, .aload 0, .getfield 22651, .invokeinterface 1476 3, .ifCond .eq 4, .aload 0, .getfield 22643, .sipush 42, .aload 0, .getfield 22635, .invokeinterface 1476 3, .ifCond .eq 4, .sipush 1, .goto 5]
def b1431_4 : List Instr := [.sipush 0, .goto_w 5]
def b1431_5 : List Instr := [.istore 5, .goto 7]
def b1431_6 : List Instr := [.aload 1, .getfield 57356, .sipush 61, .if_icmp .ne 7, .aload 0, .getfield 22643, .sipush 45, .aload 0, .getfield 22635, .invokeinterface 1476 3, .istore 5, .goto_w 7]
def b1431_7 : List Instr := [.aload 2, .aload 0, .getfield 22635, .getfield 23553, .aload 0, .getfield 22635, .getfield 23561, .invokeinterface 1473 3, .istore 6, .iload 5, .ifCond .eq 8, .aload 2, .sipush 43, .aload 0, .getfield 22643, .invokeinterface 1476 3, .ifCond .ne 9, .goto_w 8]
def b1431_8 : List Instr := [.aload 0, .sipush 3, .iload 3, .invokeinterface 1434 3, .jsr 2]
def b1431_9 : List Instr := [.aload 0, .getfield 22635, .aload 2, .getfield 23553, .aload 2, .getfield 23561, .invokeinterface 1473 3, .istore 6, .aload 2, .aload 0, .getfield 22643, .getfield 23553, .aload 0, .getfield 22643, .getfield 23561, .invokeinterface 1473 3, .istore 6, .sipush 1, .jsr 2]
/-- TimberHouse$PriceLines.work(LTimberHouse$PriceLines$Line;LTimberHouse$PriceLines$Fraction;)Z -/
def m1431 : pm_M := (fun j => [b1431_0, b1431_1, b1431_2, b1431_3, b1431_4, b1431_5, b1431_6, b1431_7, b1431_8, b1431_9].getD j [], fun _ => [], 22, 7)
def b1432_0 : List Instr := [.iload 1, .ineg, .i2c, .istore 2, .iload 1, .ifCond .lt 1, .aload 0, .iload 1, .i2l, .bipush 1, .invokeinterface 1433 3, .goto 10]
def b1432_1 : List Instr := [.iload 2, .sipush 114, .if_icmp .ne 4, .aload 0, .getfield 22619, .aload 0, .getfield 22624, .sipush 1, .isub, .aaload, .astore 3, .aload 3, .aload 3, .bipush 100, .invokeinterface 1474 2, .bipush 100, .invokeinterface 1473 3, .ifCond .eq 2, .sipush 0, .goto 3]
def b1432_2 : List Instr := [.sipush 3, .goto_w 3]
def b1432_3 : List Instr := [.jsr 0]
def b1432_4 : List Instr := [.iload 2, .invokeinterface 1425 1, .ifCond .eq 6, .aload 0, .getfield 22611, .iload 2, .sipush 97, .isub, .aaload, .astore 3, .aload 3, .ifnonnull 5, .sipush 1, .jsr 0]
def b1432_5 : List Instr := [.aload 0, .aload 3, .getfield 23553, .aload 3, .getfield 23561, .invokeinterface 1433 3, .goto 10]
def b1432_6 : List Instr := [.aload 0, .getfield 22619, .aload 0, .dup, .getfield 22624, .sipush 1, .isub, .dup_x1, .putfield 22624, .aaload, .astore 3, .iload 2, .sipush 47, .if_icmp .ne 7, .aload 3, .invokeinterface 1475 1, .ifCond .eq 7, .sipush 2, .jsr 0]
def b1432_7 : List Instr := [.aload 0, .getfield 22619, .aload 0, .getfield 22624, .sipush 1, .isub, .aaload, .iload 2, .aload 3, .invokeinterface 1476 3, .ifCond .eq 8, .sipush 0, .goto 9]
def b1432_8 : List Instr := [.sipush 3, .goto_w 9]
def b1432_9 : List Instr := [.jsr 0]
def b1432_10 : List Instr := [.sipush 0, .jsr 0]
/-- TimberHouse$PriceLines.sign(I)I -/
def m1432 : pm_M := (fun j => [b1432_0, b1432_1, b1432_2, b1432_3, b1432_4, b1432_5, b1432_6, b1432_7, b1432_8, b1432_9, b1432_10].getD j [], fun _ => [], 22, 4)
def b1433_0 : List Instr := [.aload 0, .getfield 22619, .aload 0, .dup, .getfield 22624, .dup_x1, .sipush 1, .iadd, .putfield 22624, .aaload, .lload 1, .lload 3, .invokeinterface 1473 3, .istore 5, .return_]
/-- TimberHouse$PriceLines.lay(JJ)V -/
def m1433 : pm_M := (fun j => [b1433_0].getD j [], fun _ => [], 22, 6)
def b1434_0 : List Instr := [.aload 0, .iload 1, .putfield 22560, .aload 0, .iload 2, .putfield 22568, .sipush 0, .jsr 2]
/-- TimberHouse$PriceLines.open(II)Z -/
def m1434 : pm_M := (fun j => [b1434_0].getD j [], fun _ => [], 22, 3)
def b1435_0 : List Instr := [.aload 0, .invokeinterface 1430 1, .istore 1, .aload 0, .getfield 22635, .bipush 100, .invokeinterface 1474 2, .lreturn]
/-- TimberHouse$PriceLines.cents()J -/
def m1435 : pm_M := (fun j => [b1435_0].getD j [], fun _ => [], 22, 2)
def b1436_0 : List Instr := [.iload 1, .i2l, .bipush 0, .aload 0, .getfield 22592, .sipush 1, .isub, .i2l, .invokeinterface 1411 3, .ifCond .eq 1, .iload 2, .i2l, .bipush 0, .bipush 3, .invokeinterface 1411 3, .ifCond .eq 1, .sipush 1, .goto 2]
def b1436_1 : List Instr := [.sipush 0, .goto_w 2]
def b1436_2 : List Instr := [.invokeinterface 1412 1, .aload 0, .invokeinterface 1430 1, .istore 3, .iload 2, .ifCond .ne 3, .aload 0, .getfield 22659, .iload 1, .aaload, .getfield 23553, .goto 6]
def b1436_3 : List Instr := [.iload 2, .sipush 1, .if_icmp .ne 4, .aload 0, .getfield 22659, .iload 1, .aaload, .getfield 23561, .goto 6]
def b1436_4 : List Instr := [.iload 2, .sipush 2, .if_icmp .ne 5, .aload 0, .getfield 22667, .iload 1, .iaload, .i2l, .goto 6]
def b1436_5 : List Instr := [.aload 0, .getfield 22675, .iload 1, .iaload, .i2l, .goto_w 6]
def b1436_6 : List Instr := [.lreturn]
/-- TimberHouse$PriceLines.line(II)J -/
def m1436 : pm_M := (fun j => [b1436_0, b1436_1, b1436_2, b1436_3, b1436_4, b1436_5, b1436_6].getD j [], fun _ => [], 22, 4)
def b1437_0 : List Instr := [.iload 1, .invokeinterface 1410 1, .istore 4, .iload 2, .iload 3, .invokeinterface 1413 2, .aload 0, .invokeinterface 1435 1, .lstore 5, .aload 0, .getfield 22611, .iload 4, .aaload, .astore 7, .aload 0, .getfield 22611, .iload 4, .new 23, .dup, .invokeinterface 1472 1, .aastore, .aload 0, .getfield 22611, .iload 4, .aaload, .iload 2, .i2l, .iload 3, .i2l, .invokeinterface 1473 3, .istore 8, .aload 0, .invokeinterface 1435 1, .lstore 9, .aload 0, .getfield 22611, .iload 4, .aload 7, .aastore, .lload 9, .lload 5, .lsub, .lreturn]
/-- TimberHouse$PriceLines.changed(III)J -/
def m1437 : pm_M := (fun j => [b1437_0].getD j [], fun _ => [], 22, 11)
def b1438_0 : List Instr := [.aload 0, .getfield 22688, .ifCond .eq 1, .iload 1, .aload 0, .getfield 22683, .aload 0, .getfield 22688, .sipush 1, .isub, .aaload, .sipush 0, .iaload, .if_icmp .le 2, .goto_w 1]
def b1438_1 : List Instr := [.sipush 1, .goto 3]
def b1438_2 : List Instr := [.sipush 0, .goto_w 3]
def b1438_3 : List Instr := [.istore 4, .iload 1, .i2l, .bipush 0, .bipush 10000, .invokeinterface 1411 3, .ifCond .eq 4, .iload 4, .ifCond .eq 4, .iload 2, .i2l, .bipush 1, .bipush 1000, .invokeinterface 1411 3, .ifCond .eq 4, .iload 3, .i2l, .bipush 1, .bipush 1000, .invokeinterface 1411 3, .ifCond .eq 4, .sipush 1, .goto 5]
def b1438_4 : List Instr := [.sipush 0, .goto_w 5]
def b1438_5 : List Instr := [.invokeinterface 1414 1, .aload 0, .getfield 22688, .sipush 8, .if_icmp .ge 6, .sipush 1, .goto 7]
def b1438_6 : List Instr := [.sipush 0, .goto_w 7]
def b1438_7 : List Instr := [.invokeinterface 1418 1, .aload 0, .getfield 22683, .aload 0, .dup, .getfield 22688, .dup_x1, .sipush 1, .iadd, .putfield 22688, .aaload, .astore 5, .aload 5, .sipush 0, .iload 1, .iastore, .aload 5, .sipush 1, .iload 2, .iastore, .aload 5, .sipush 2, .iload 3, .iastore, .aload 0, .getfield 22688, .jsr 0]
/-- TimberHouse$PriceLines.currency(III)I -/
def m1438 : pm_M := (fun j => [b1438_0, b1438_1, b1438_2, b1438_3, b1438_4, b1438_5, b1438_6, b1438_7].getD j [], fun _ => [], 22, 6)
def b1439_0 : List Instr := [.iload 1, .i2l, .bipush 0, .bipush 10000, .invokeinterface 1411 3, .invokeinterface 1414 1, .aload 0, .aload 0, .invokeinterface 1435 1, .iload 1, .invokeinterface 1440 3, .lreturn]
/-- TimberHouse$PriceLines.centsAt(I)J -/
def m1439 : pm_M := (fun j => [b1439_0].getD j [], fun _ => [], 22, 2)
def b1440_0 : List Instr := [.lload 1, .lstore 4, .sipush 0, .istore 6, .goto_w 1]
def b1440_1 : List Instr := [.iload 6, .aload 0, .getfield 22688, .if_icmp .ge 2, .aload 0, .getfield 22683, .iload 6, .aaload, .sipush 0, .iaload, .iload 3, .if_icmp .gt 2, .lload 1, .aload 0, .getfield 22683, .iload 6, .aaload, .sipush 1, .iaload, .i2l, .lmul, .aload 0, .getfield 22683, .iload 6, .aaload, .sipush 2, .iaload, .i2l, .invokeinterface 3846 2, .lstore 4, .iinc 6 1, .goto 1]
def b1440_2 : List Instr := [.lload 4, .lreturn]
/-- TimberHouse$PriceLines.at(JI)J -/
def m1440 : pm_M := (fun j => [b1440_0, b1440_1, b1440_2].getD j [], fun _ => [], 22, 7)
def b1441_0 : List Instr := [.iload 1, .i2l, .bipush 0, .bipush 10000, .invokeinterface 1411 3, .invokeinterface 1414 1, .aload 0, .getfield 22712, .sipush 8, .if_icmp .ge 1, .aload 0, .invokeinterface 1430 1, .ifCond .ne 1, .sipush 1, .goto 2]
def b1441_1 : List Instr := [.sipush 0, .goto_w 2]
def b1441_2 : List Instr := [.invokeinterface 1418 1, .aload 0, .getfield 22699, .aload 0, .getfield 22712, .aload 0, .getfield 22635, .bipush 100, .invokeinterface 1474 2, .lastore, .aload 0, .getfield 22707, .aload 0, .getfield 22712, .iload 1, .iastore, .aload 0, .dup, .getfield 22712, .dup_x1, .sipush 1, .iadd, .putfield 22712, .jsr 0]
/-- TimberHouse$PriceLines.offer(I)I -/
def m1441 : pm_M := (fun j => [b1441_0, b1441_1, b1441_2].getD j [], fun _ => [], 22, 2)
def b1442_0 : List Instr := [.iload 1, .i2l, .bipush 0, .aload 0, .getfield 22712, .sipush 1, .isub, .i2l, .invokeinterface 1411 3, .ifCond .eq 1, .iload 2, .i2l, .bipush 0, .aload 0, .getfield 22712, .sipush 1, .isub, .i2l, .invokeinterface 1411 3, .ifCond .eq 1, .sipush 1, .goto 2]
def b1442_1 : List Instr := [.sipush 0, .goto_w 2]
def b1442_2 : List Instr := [.invokeinterface 1412 1, .aload 0, .getfield 22699, .iload 1, .laload, .aload 0, .getfield 22699, .iload 2, .laload, .lsub, .lreturn]
/-- TimberHouse$PriceLines.differs(II)J -/
def m1442 : pm_M := (fun j => [b1442_0, b1442_1, b1442_2].getD j [], fun _ => [], 22, 3)
def b1443_0 : List Instr := [.iload 1, .i2l, .bipush 0, .aload 0, .getfield 22712, .sipush 1, .isub, .i2l, .invokeinterface 1411 3, .invokeinterface 1412 1, .iload 2, .i2l, .bipush 0, .bipush 10000, .invokeinterface 1411 3, .invokeinterface 1414 1, .aload 0, .getfield 22728, .sipush 8, .if_icmp .ge 1, .iload 2, .aload 0, .getfield 22707, .iload 1, .iaload, .if_icmp .gt 1, .aload 0, .getfield 22699, .iload 1, .laload, .bipush 0, .lcmp, .ifCond .lt 1, .sipush 1, .goto 2]
def b1443_1 : List Instr := [.sipush 0, .goto_w 2]
def b1443_2 : List Instr := [.invokeinterface 1418 1, .aload 0, .getfield 22723, .aload 0, .getfield 22728, .aload 0, .aload 0, .getfield 22699, .iload 1, .laload, .iload 2, .invokeinterface 1440 3, .lastore, .aload 0, .dup, .getfield 22728, .dup_x1, .sipush 1, .iadd, .putfield 22728, .jsr 0]
/-- TimberHouse$PriceLines.invoice(II)I -/
def m1443 : pm_M := (fun j => [b1443_0, b1443_1, b1443_2].getD j [], fun _ => [], 22, 3)
def b1444_0 : List Instr := [.iload 1, .i2l, .bipush 0, .aload 0, .getfield 22728, .sipush 1, .isub, .i2l, .invokeinterface 1411 3, .invokeinterface 1412 1, .aload 0, .getfield 22723, .iload 1, .laload, .lreturn]
/-- TimberHouse$PriceLines.left(I)J -/
def m1444 : pm_M := (fun j => [b1444_0].getD j [], fun _ => [], 22, 2)
def b1445_0 : List Instr := [.iload 1, .i2l, .bipush 0, .aload 0, .getfield 22728, .sipush 1, .isub, .i2l, .invokeinterface 1411 3, .invokeinterface 1412 1, .iload 2, .ifCond .lt 1, .sipush 1, .goto 2]
def b1445_1 : List Instr := [.sipush 0, .goto_w 2]
def b1445_2 : List Instr := [.invokeinterface 1414 1, .iload 2, .i2l, .aload 0, .getfield 22723, .iload 1, .laload, .lcmp, .ifCond .le 3, .sipush 0, .jsr 2]
def b1445_3 : List Instr := [.aload 0, .getfield 22723, .iload 1, .dup2, .laload, .iload 2, .i2l, .lsub, .lastore, .sipush 1, .jsr 2]
/-- TimberHouse$PriceLines.refund(II)Z -/
def m1445 : pm_M := (fun j => [b1445_0, b1445_1, b1445_2, b1445_3].getD j [], fun _ => [], 22, 3)
def b1446_0 : List Instr := [.iload 1, .i2l, .bipush 0, .bipush 7, .invokeinterface 1411 3, .invokeinterface 1412 1, .iload 2, .i2l, .bipush 0, .bipush 100000, .invokeinterface 1411 3, .invokeinterface 1414 1, .aload 0, .getfield 22739, .iload 1, .dup2, .laload, .iload 2, .i2l, .ladd, .lastore, .aload 0, .getfield 22747, .iload 1, .dup2, .iaload, .sipush 1, .iadd, .iastore, .aload 0, .getfield 22739, .iload 1, .laload, .aload 0, .getfield 22747, .iload 1, .iaload, .i2l, .ldiv, .l2i, .jsr 0]
/-- TimberHouse$PriceLines.learn(II)I -/
def m1446 : pm_M := (fun j => [b1446_0].getD j [], fun _ => [], 22, 3)
def b1472_0 : List Instr := [.aload 0, .f2i, .aload 0, .bipush 1, .putfield 23561, .return_]
/-- TimberHouse$PriceLines$Fraction.<init>()V -/
def m1472 : pm_M := (fun j => [b1472_0].getD j [], fun _ => [], 23, 1)
def b1473_0 : List Instr := [.lload 1, .lload 3, .bipush 0, .lcmp, .ifCond .ge 1, .lload 3, .lneg, .goto 2]
def b1473_1 : List Instr := [.lload 3, .goto_w 2]
def b1473_2 : List Instr := [.invokeinterface 1415 2, .lstore 5, .aload 0, .lload 3, .bipush 0, .lcmp, .ifCond .ge 3, .lload 1, .lneg, .goto 4]
def b1473_3 : List Instr := [.lload 1, .goto_w 4]
def b1473_4 : List Instr := [.lload 5, .ldiv, .putfield 23553, .aload 0, .lload 3, .bipush 0, .lcmp, .ifCond .ge 5, .lload 3, .lneg, .goto 6]
def b1473_5 : List Instr := [.lload 3, .goto_w 6]
def b1473_6 : List Instr := [.lload 5, .ldiv, .putfield 23561, .aload 0, .getfield 23553, .bipush 1000000000, .lcmp, .ifCond .gt 7, .aload 0, .getfield 23553, .bipush (-1000000000), .lcmp, .ifCond .lt 7, .aload 0, .getfield 23561, .bipush 1000000000, .lcmp, .ifCond .gt 7, .sipush 1, .goto 8]
def b1473_7 : List Instr := [.sipush 0, .goto_w 8]
def b1473_8 : List Instr := [.jsr 2]
/-- TimberHouse$PriceLines$Fraction.set(JJ)Z -/
def m1473 : pm_M := (fun j => [b1473_0, b1473_1, b1473_2, b1473_3, b1473_4, b1473_5, b1473_6, b1473_7, b1473_8].getD j [], fun _ => [], 23, 7)
def b1474_0 : List Instr := [.bipush 2, .aload 0, .getfield 23553, .lmul, .lload 1, .lmul, .aload 0, .getfield 23561, .ladd, .bipush 2, .aload 0, .getfield 23561, .lmul, .invokeinterface 3846 2, .lreturn]
/-- TimberHouse$PriceLines$Fraction.rounded(J)J -/
def m1474 : pm_M := (fun j => [b1474_0].getD j [], fun _ => [], 23, 3)
def b1475_0 : List Instr := [.aload 0, .getfield 23553, .bipush 0, .lcmp, .ifCond .ne 1, .sipush 1, .goto 2]
def b1475_1 : List Instr := [.sipush 0, .goto_w 2]
def b1475_2 : List Instr := [.jsr 2]
/-- TimberHouse$PriceLines$Fraction.isNothing()Z -/
def m1475 : pm_M := (fun j => [b1475_0, b1475_1, b1475_2].getD j [], fun _ => [], 23, 1)
def b1476_0 : List Instr := [.iload 1, .lookupswitch 8 #[(42, 3), (43, 1), (45, 2), (47, 4), (60, 5)]]
def b1476_1 : List Instr := [.aload 0, .aload 0, .getfield 23553, .aload 2, .getfield 23561, .lmul, .aload 2, .getfield 23553, .aload 0, .getfield 23561, .lmul, .ladd, .aload 0, .getfield 23561, .aload 2, .getfield 23561, .lmul, .invokeinterface 1473 3, .goto 11]
def b1476_2 : List Instr := [.aload 0, .aload 0, .getfield 23553, .aload 2, .getfield 23561, .lmul, .aload 2, .getfield 23553, .aload 0, .getfield 23561, .lmul, .lsub, .aload 0, .getfield 23561, .aload 2, .getfield 23561, .lmul, .invokeinterface 1473 3, .goto 11]
def b1476_3 : List Instr := [.aload 0, .aload 0, .getfield 23553, .aload 2, .getfield 23553, .lmul, .aload 0, .getfield 23561, .aload 2, .getfield 23561, .lmul, .invokeinterface 1473 3, .goto 11]
def b1476_4 : List Instr := [.aload 0, .aload 0, .getfield 23553, .aload 2, .getfield 23561, .lmul, .aload 0, .getfield 23561, .aload 2, .getfield 23553, .lmul, .invokeinterface 1473 3, .goto 11]
def b1476_5 : List Instr := [.aload 0, .getfield 23553, .aload 2, .getfield 23561, .lmul, .aload 2, .getfield 23553, .aload 0, .getfield 23561, .lmul, .lcmp, .ifCond .le 6, .aload 0, .aload 2, .getfield 23553, .aload 2, .getfield 23561, .invokeinterface 1473 3, .ifCond .eq 7, .goto_w 6]
def b1476_6 : List Instr := [.sipush 1, .goto 11]
def b1476_7 : List Instr := [.sipush 0, .goto 11]
def b1476_8 : List Instr := [.aload 0, .getfield 23553, .aload 2, .getfield 23561, .lmul, .aload 2, .getfield 23553, .aload 0, .getfield 23561, .lmul, .lcmp, .ifCond .ge 9, .aload 0, .aload 2, .getfield 23553, .aload 2, .getfield 23561, .invokeinterface 1473 3, .ifCond .eq 10, .goto_w 9]
def b1476_9 : List Instr := [.sipush 1, .goto 11]
def b1476_10 : List Instr := [.sipush 0, .goto_w 11]
def b1476_11 : List Instr := [.jsr 2]
/-- TimberHouse$PriceLines$Fraction.work(CLTimberHouse$PriceLines$Fraction;)Z -/
def m1476 : pm_M := (fun j => [b1476_0, b1476_1, b1476_2, b1476_3, b1476_4, b1476_5, b1476_6, b1476_7, b1476_8, b1476_9, b1476_10, b1476_11].getD j [], fun _ => [], 23, 3)
def b1536_0 : List Instr := [.aload 0, .f2i, .aload 0, .sipush 300, .anewarray 1, .putfield 24579, .aload 0, .sipush 8, .anewarray 2, .putfield 24595, .aload 0, .sipush 4, .sipush 4, .multianewarray 3 2, .putfield 24611, .aload 0, .sipush 60, .anewarray 4, .putfield 24619, .aload 0, .sipush (-1), .putfield 24640, .return_]
/-- TimberHouse$ShopDesks.<init>()V -/
def m1536 : pm_M := (fun j => [b1536_0].getD j [], fun _ => [], 24, 1)
def b1537_0 : List Instr := [.iload 1, .i2l, .bipush 0, .bipush 3599, .invokeinterface 1538 3, .invokeinterface 1539 1, .aload 0, .getfield 24624, .sipush 60, .if_icmp .ge 1, .sipush 1, .goto 2]
def b1537_1 : List Instr := [.sipush 0, .goto_w 2]
def b1537_2 : List Instr := [.invokeinterface 1540 1, .aload 0, .getfield 24619, .aload 0, .getfield 24624, .new 59, .dup, .iload 1, .invokeinterface 3776 2, .aastore, .aload 0, .dup, .getfield 24624, .dup_x1, .sipush 1, .iadd, .putfield 24624, .jsr 0]
/-- TimberHouse$ShopDesks.entry(I)I -/
def m1537 : pm_M := (fun j => [b1537_0, b1537_1, b1537_2].getD j [], fun _ => [], 24, 2)
def b1538_0 : List Instr := [.lload 0, .lload 2, .lcmp, .ifCond .lt 1, .lload 0, .lload 4, .lcmp, .ifCond .gt 1, .sipush 1, .goto 2]
def b1538_1 : List Instr := [.sipush 0, .goto_w 2]
def b1538_2 : List Instr := [.jsr 2]
/-- TimberHouse$ShopDesks.isIn(JJJ)Z -/
def m1538 : pm_M := (fun j => [b1538_0, b1538_1, b1538_2].getD j [], fun _ => [], 0, 6)
def b1539_0 : List Instr := [.iload 0, .ifCond .ne 1, .ret 70, .athrow]
def b1539_1 : List Instr := [.return_]
/-- TimberHouse$ShopDesks.proper(Z)V -/
def m1539 : pm_M := (fun j => [b1539_0, b1539_1].getD j [], fun _ => [], 0, 1)
def b1540_0 : List Instr := [.iload 0, .ifCond .ne 1, .ret 71, .athrow]
def b1540_1 : List Instr := [.return_]
/-- TimberHouse$ShopDesks.can(Z)V -/
def m1540 : pm_M := (fun j => [b1540_0, b1540_1].getD j [], fun _ => [], 0, 1)
def b1541_0 : List Instr := [.aload 0, .iload 1, .invokeinterface 1542 2, .astore 5, .iload 2, .i2l, .bipush 0, .bipush 9, .invokeinterface 1538 3, .invokeinterface 1543 1, .lload 3, .bipush (-1000000000), .bipush 1000000000, .invokeinterface 1538 3, .invokeinterface 1539 1, .aload 5, .getfield 60440, .sipush 6, .if_icmp .ge 1, .aload 5, .getfield 60448, .ifCond .ne 1, .sipush 1, .goto 2]
def b1541_1 : List Instr := [.sipush 0, .goto_w 2]
def b1541_2 : List Instr := [.invokeinterface 1540 1, .aload 5, .iload 2, .lload 3, .invokeinterface 3777 3, .aload 5, .getfield 60440, .jsr 0]
/-- TimberHouse$ShopDesks.row(IIJ)I -/
def m1541 : pm_M := (fun j => [b1541_0, b1541_1, b1541_2].getD j [], fun _ => [], 24, 6)
def b1542_0 : List Instr := [.iload 1, .i2l, .bipush 0, .aload 0, .getfield 24624, .i2l, .bipush 1, .lsub, .invokeinterface 1538 3, .invokeinterface 1543 1, .aload 0, .getfield 24619, .iload 1, .aaload, .areturn]
/-- TimberHouse$ShopDesks.entryAt(I)LTimberHouse$ShopDesks$Entry; -/
def m1542 : pm_M := (fun j => [b1542_0].getD j [], fun _ => [], 24, 2)
def b1543_0 : List Instr := [.iload 0, .ifCond .ne 1, .ret 67, .athrow]
def b1543_1 : List Instr := [.return_]
/-- TimberHouse$ShopDesks.there(Z)V -/
def m1543 : pm_M := (fun j => [b1543_0, b1543_1].getD j [], fun _ => [], 0, 1)
def b1544_0 : List Instr := [.aload 0, .iload 1, .invokeinterface 1542 2, .astore 2, .aload 2, .getfield 60448, .ifCond .ne 1, .sipush 1, .goto 2]
def b1544_1 : List Instr := [.sipush 0, .goto_w 2]
def b1544_2 : List Instr := [.invokeinterface 1540 1, .aload 2, .getfield 60440, .ifCond .eq 3, .aload 2, .invokeinterface 3778 1, .bipush 0, .lcmp, .ifCond .ne 3, .aload 0, .aload 2, .getfield 60416, .invokeinterface 1545 2, .ifCond .eq 4, .goto_w 3]
def b1544_3 : List Instr := [.sipush 0, .jsr 0]
def b1544_4 : List Instr := [.aload 2, .aload 0, .dup, .getfield 24632, .sipush 1, .iadd, .dup_x1, .putfield 24632, .putfield 60448, .aload 2, .getfield 60448, .jsr 0]
/-- TimberHouse$ShopDesks.close(I)I -/
def m1544 : pm_M := (fun j => [b1544_0, b1544_1, b1544_2, b1544_3, b1544_4].getD j [], fun _ => [], 24, 3)
def b1545_0 : List Instr := [.iload 1, .sipush 30, .idiv, .aload 0, .getfield 24640, .if_icmp .gt 1, .sipush 1, .goto 2]
def b1545_1 : List Instr := [.sipush 0, .goto_w 2]
def b1545_2 : List Instr := [.jsr 2]
/-- TimberHouse$ShopDesks.isClosed(I)Z -/
def m1545 : pm_M := (fun j => [b1545_0, b1545_1, b1545_2].getD j [], fun _ => [], 24, 2)
def b1546_0 : List Instr := [.iload 1, .i2l, .bipush 0, .bipush 5, .invokeinterface 1538 3, .ifCond .eq 1, .iload 4, .i2l, .bipush 0, .bipush 9, .invokeinterface 1538 3, .ifCond .eq 1, .sipush 1, .goto 2]
def b1546_1 : List Instr := [.sipush 0, .goto_w 2]
def b1546_2 : List Instr := [.invokeinterface 1543 1, .iload 5, .invokeinterface 1547 1, .invokeinterface 1539 1, .sipush 0, .istore 10, .goto_w 3]
def b1546_3 : List Instr := [.iload 10, .aload 0, .getfield 24584, .if_icmp .ge 5, .aload 0, .getfield 24579, .iload 10, .aaload, .getfield 58368, .iload 1, .if_icmp .ne 4, .aload 0, .getfield 24579, .iload 10, .aaload, .getfield 58377, .lload 2, .lcmp, .ifCond .ne 4, .sipush 0, .jsr 0]
def b1546_4 : List Instr := [.iinc 10 1, .goto 3]
def b1546_5 : List Instr := [.aload 0, .getfield 24584, .sipush 300, .if_icmp .ge 6, .sipush 1, .goto 7]
def b1546_6 : List Instr := [.sipush 0, .goto_w 7]
def b1546_7 : List Instr := [.invokeinterface 1540 1, .aload 0, .getfield 24579, .aload 0, .dup, .getfield 24584, .dup_x1, .sipush 1, .iadd, .putfield 24584, .new 57, .dup, .iload 1, .lload 2, .iload 4, .iload 5, .lload 6, .lload 8, .invokeinterface 3648 7, .aastore, .sipush 1, .jsr 0]
/-- TimberHouse$ShopDesks.tell(IJIIJJ)I -/
def m1546 : pm_M := (fun j => [b1546_0, b1546_1, b1546_2, b1546_3, b1546_4, b1546_5, b1546_6, b1546_7].getD j [], fun _ => [], 24, 11)
def b1547_0 : List Instr := [.iload 0, .i2l, .bipush 0, .bipush 3, .invokeinterface 1538 3, .jsr 2]
/-- TimberHouse$ShopDesks.isKind(I)Z -/
def m1547 : pm_M := (fun j => [b1547_0].getD j [], fun _ => [], 0, 1)
def b1548_0 : List Instr := [.iload 1, .i2l, .bipush 0, .bipush 5, .invokeinterface 1538 3, .invokeinterface 1543 1, .aload 0, .getfield 24600, .sipush 8, .if_icmp .ge 1, .sipush 1, .goto 2]
def b1548_1 : List Instr := [.sipush 0, .goto_w 2]
def b1548_2 : List Instr := [.invokeinterface 1540 1, .new 58, .dup, .aload 0, .getfield 24579, .invokeinterface 3712 2, .astore 2, .aload 0, .iload 1, .aload 2, .invokeinterface 1549 3, .istore 3, .goto_w 3]
def b1548_3 : List Instr := [.iload 3, .sipush (-1), .if_icmp .eq 4, .aload 2, .iload 3, .invokeinterface 3714 2, .istore 4, .aload 0, .iload 1, .aload 2, .invokeinterface 1549 3, .istore 3, .goto 3]
def b1548_4 : List Instr := [.aload 0, .getfield 24595, .aload 0, .getfield 24600, .aload 2, .aastore, .aload 0, .dup, .getfield 24600, .dup_x1, .sipush 1, .iadd, .putfield 24600, .jsr 0]
/-- TimberHouse$ShopDesks.set(I)I -/
def m1548 : pm_M := (fun j => [b1548_0, b1548_1, b1548_2, b1548_3, b1548_4].getD j [], fun _ => [], 24, 5)
def b1549_0 : List Instr := [.sipush (-1), .istore 3, .sipush 0, .istore 4, .goto_w 1]
def b1549_1 : List Instr := [.iload 4, .aload 0, .getfield 24584, .if_icmp .ge 4, .aload 0, .getfield 24579, .iload 4, .aaload, .getfield 58368, .iload 1, .if_icmp .ne 3, .aload 2, .iload 4, .invokeinterface 3713 2, .ifCond .ne 3, .iload 3, .sipush (-1), .if_icmp .eq 2, .aload 0, .getfield 24579, .iload 4, .aaload, .getfield 58377, .aload 0, .getfield 24579, .iload 3, .aaload, .getfield 58377, .lcmp, .ifCond .ge 3, .goto_w 2]
def b1549_2 : List Instr := [.iload 4, .istore 3, .goto_w 3]
def b1549_3 : List Instr := [.iinc 4 1, .goto 1]
def b1549_4 : List Instr := [.iload 3, .jsr 0]
/-- TimberHouse$ShopDesks.least(ILTimberHouse$ShopDesks$Bag;)I -/
def m1549 : pm_M := (fun j => [b1549_0, b1549_1, b1549_2, b1549_3, b1549_4].getD j [], fun _ => [], 24, 5)
def b1550_0 : List Instr := [.aload 0, .iload 1, .invokeinterface 1551 2, .ifCond .eq 1, .aload 0, .iload 2, .invokeinterface 1551 2, .ifCond .eq 1, .sipush 1, .goto 2]
def b1550_1 : List Instr := [.sipush 0, .goto_w 2]
def b1550_2 : List Instr := [.invokeinterface 1543 1, .sipush 0, .istore 3, .aload 0, .getfield 24595, .iload 2, .aaload, .getfield 59416, .istore 4, .sipush 0, .istore 5, .goto_w 3]
def b1550_3 : List Instr := [.iload 5, .iload 4, .if_icmp .ge 6, .iload 3, .aload 0, .getfield 24595, .iload 1, .aaload, .aload 0, .getfield 24595, .iload 2, .aaload, .getfield 59403, .iload 5, .saload, .invokeinterface 3714 2, .ifCond .eq 4, .sipush 1, .goto 5]
def b1550_4 : List Instr := [.sipush 0, .goto_w 5]
def b1550_5 : List Instr := [.iadd, .istore 3, .iinc 5 1, .goto 3]
def b1550_6 : List Instr := [.iload 3, .jsr 0]
/-- TimberHouse$ShopDesks.join(II)I -/
def m1550 : pm_M := (fun j => [b1550_0, b1550_1, b1550_2, b1550_3, b1550_4, b1550_5, b1550_6].getD j [], fun _ => [], 24, 6)
def b1551_0 : List Instr := [.iload 1, .i2l, .bipush 0, .aload 0, .getfield 24600, .i2l, .bipush 1, .lsub, .invokeinterface 1538 3, .jsr 2]
/-- TimberHouse$ShopDesks.isSet(I)Z -/
def m1551 : pm_M := (fun j => [b1551_0].getD j [], fun _ => [], 24, 2)
def b1552_0 : List Instr := [.aload 0, .iload 1, .invokeinterface 1551 2, .ifCond .eq 1, .aload 0, .iload 2, .invokeinterface 1551 2, .ifCond .eq 1, .sipush 1, .goto 2]
def b1552_1 : List Instr := [.sipush 0, .goto_w 2]
def b1552_2 : List Instr := [.invokeinterface 1543 1, .sipush 1, .istore 3, .sipush 0, .istore 4, .goto_w 3]
def b1552_3 : List Instr := [.iload 4, .aload 0, .getfield 24595, .iload 1, .aaload, .getfield 59411, .arraylength, .if_icmp .ge 6, .iload 3, .aload 0, .getfield 24595, .iload 1, .aaload, .getfield 59411, .iload 4, .laload, .aload 0, .getfield 24595, .iload 2, .aaload, .getfield 59411, .iload 4, .laload, .lcmp, .ifCond .ne 4, .sipush 1, .goto 5]
def b1552_4 : List Instr := [.sipush 0, .goto_w 5]
def b1552_5 : List Instr := [.iand, .istore 3, .iinc 4 1, .goto 3]
def b1552_6 : List Instr := [.iload 3, .jsr 2]
/-- TimberHouse$ShopDesks.equal(II)Z -/
def m1552 : pm_M := (fun j => [b1552_0, b1552_1, b1552_2, b1552_3, b1552_4, b1552_5, b1552_6].getD j [], fun _ => [], 24, 5)
def b1553_0 : List Instr := [.aload 0, .iload 1, .invokeinterface 1551 2, .ifCond .eq 1, .iload 2, .i2l, .bipush 0, .bipush 9, .invokeinterface 1538 3, .ifCond .eq 1, .sipush 1, .goto 2]
def b1553_1 : List Instr := [.sipush 0, .goto_w 2]
def b1553_2 : List Instr := [.invokeinterface 1543 1, .iload 3, .invokeinterface 1547 1, .invokeinterface 1539 1, .aload 0, .getfield 24595, .iload 1, .aaload, .aload 0, .getfield 24595, .iload 1, .aaload, .getfield 59416, .iload 2, .iload 3, .lload 4, .invokeinterface 3715 5, .lreturn]
/-- TimberHouse$ShopDesks.at(IIIJ)J -/
def m1553 : pm_M := (fun j => [b1553_0, b1553_1, b1553_2].getD j [], fun _ => [], 24, 6)
def b1554_0 : List Instr := [.aload 0, .iload 1, .invokeinterface 1551 2, .invokeinterface 1543 1, .iload 2, .ifCond .lt 1, .sipush 1, .goto 2]
def b1554_1 : List Instr := [.sipush 0, .goto_w 2]
def b1554_2 : List Instr := [.invokeinterface 1539 1, .sipush 0, .istore 3, .sipush 0, .istore 4, .goto_w 3]
def b1554_3 : List Instr := [.iload 4, .sipush 10, .if_icmp .ge 5, .aload 0, .getfield 24595, .iload 1, .aaload, .aload 0, .getfield 24595, .iload 1, .aaload, .getfield 59416, .iload 4, .bipush 9223372036854775807, .invokeinterface 3717 4, .ifCond .eq 4, .iload 3, .iinc 3 1, .iload 2, .if_icmp .ne 4, .iload 4, .jsr 0]
def b1554_4 : List Instr := [.iinc 4 1, .goto 3]
def b1554_5 : List Instr := [.sipush (-1), .jsr 0]
/-- TimberHouse$ShopDesks.conflict(II)I -/
def m1554 : pm_M := (fun j => [b1554_0, b1554_1, b1554_2, b1554_3, b1554_4, b1554_5].getD j [], fun _ => [], 24, 5)
def b1555_0 : List Instr := [.aload 0, .iload 1, .invokeinterface 1551 2, .invokeinterface 1543 1, .aload 0, .getfield 24595, .iload 1, .aaload, .getfield 59416, .jsr 0]
/-- TimberHouse$ShopDesks.mark(I)I -/
def m1555 : pm_M := (fun j => [b1555_0].getD j [], fun _ => [], 24, 2)
def b1556_0 : List Instr := [.aload 0, .iload 1, .invokeinterface 1551 2, .invokeinterface 1543 1, .iload 2, .ifCond .lt 1, .iload 3, .ifCond .lt 1, .iload 2, .i2l, .iload 3, .i2l, .ladd, .aload 0, .getfield 24595, .iload 1, .aaload, .getfield 59416, .i2l, .lcmp, .ifCond .ge 2, .goto_w 1]
def b1556_1 : List Instr := [.sipush 1, .goto 3]
def b1556_2 : List Instr := [.sipush 0, .goto_w 3]
def b1556_3 : List Instr := [.invokeinterface 1543 1, .iload 2, .ifCond .lt 4, .iload 3, .ifCond .lt 4, .iload 4, .i2l, .bipush 0, .bipush 2, .invokeinterface 1538 3, .ifCond .eq 4, .sipush 1, .goto 5]
def b1556_4 : List Instr := [.sipush 0, .goto_w 5]
def b1556_5 : List Instr := [.invokeinterface 1539 1, .aload 0, .getfield 24579, .aload 0, .getfield 24595, .iload 1, .aaload, .getfield 59403, .iload 2, .iload 3, .iadd, .saload, .aaload, .astore 5, .iload 4, .ifCond .ne 6, .aload 5, .getfield 58368, .i2l, .goto 8]
def b1556_6 : List Instr := [.iload 4, .sipush 1, .if_icmp .ne 7, .aload 5, .getfield 58377, .goto 8]
def b1556_7 : List Instr := [.aload 5, .getfield 58401, .goto_w 8]
def b1556_8 : List Instr := [.lreturn]
/-- TimberHouse$ShopDesks.since(IIII)J -/
def m1556 : pm_M := (fun j => [b1556_0, b1556_1, b1556_2, b1556_3, b1556_4, b1556_5, b1556_6, b1556_7, b1556_8].getD j [], fun _ => [], 24, 6)
def b1557_0 : List Instr := [.aload 0, .iload 1, .invokeinterface 1551 2, .invokeinterface 1543 1, .aload 0, .getfield 24595, .iload 1, .aaload, .astore 3, .aload 3, .getfield 59424, .sipush (-1), .if_icmp .ne 1, .sipush 1, .goto 2]
def b1557_1 : List Instr := [.sipush 0, .goto_w 2]
def b1557_2 : List Instr := [.iload 2, .if_icmp .ne 3, .sipush 1, .goto 4]
def b1557_3 : List Instr := [.sipush 0, .goto_w 4]
def b1557_4 : List Instr := [.istore 4, .iload 4, .ifCond .eq 7, .aload 3, .iload 2, .ifCond .eq 5, .aload 3, .getfield 59416, .goto 6]
def b1557_5 : List Instr := [.sipush (-1), .goto_w 6]
def b1557_6 : List Instr := [.putfield 59424, .goto_w 7]
def b1557_7 : List Instr := [.iload 4, .jsr 2]
/-- TimberHouse$ShopDesks.batch(IZ)Z -/
def m1557 : pm_M := (fun j => [b1557_0, b1557_1, b1557_2, b1557_3, b1557_4, b1557_5, b1557_6, b1557_7].getD j [], fun _ => [], 24, 5)
def b1558_0 : List Instr := [.iload 1, .i2l, .bipush 0, .bipush 3, .invokeinterface 1538 3, .invokeinterface 1543 1, .iload 2, .invokeinterface 1547 1, .invokeinterface 1539 1, .aload 0, .getfield 24611, .iload 1, .aaload, .iload 2, .baload, .iload 3, .if_icmp .eq 1, .sipush 1, .goto 2]
def b1558_1 : List Instr := [.sipush 0, .goto_w 2]
def b1558_2 : List Instr := [.istore 4, .aload 0, .getfield 24611, .iload 1, .aaload, .iload 2, .iload 3, .bastore, .iload 4, .jsr 2]
/-- TimberHouse$ShopDesks.right(IIZ)Z -/
def m1558 : pm_M := (fun j => [b1558_0, b1558_1, b1558_2].getD j [], fun _ => [], 24, 5)
def b1559_0 : List Instr := [.iload 1, .i2l, .bipush 0, .bipush 3, .invokeinterface 1538 3, .ifCond .eq 1, .aload 0, .iload 2, .invokeinterface 1551 2, .ifCond .eq 1, .iload 3, .i2l, .bipush 0, .bipush 9, .invokeinterface 1538 3, .ifCond .eq 1, .sipush 1, .goto 2]
def b1559_1 : List Instr := [.sipush 0, .goto_w 2]
def b1559_2 : List Instr := [.invokeinterface 1543 1, .iload 4, .invokeinterface 1547 1, .invokeinterface 1539 1, .aload 0, .getfield 24611, .iload 1, .aaload, .iload 4, .baload, .invokeinterface 1540 1, .aload 0, .getfield 24595, .iload 2, .aaload, .astore 5, .aload 5, .aload 5, .getfield 59424, .sipush (-1), .if_icmp .ne 3, .aload 5, .getfield 59416, .goto 4]
def b1559_3 : List Instr := [.aload 5, .getfield 59424, .goto_w 4]
def b1559_4 : List Instr := [.iload 3, .iload 4, .bipush 9223372036854775807, .invokeinterface 3715 5, .lreturn]
/-- TimberHouse$ShopDesks.seen(IIII)J -/
def m1559 : pm_M := (fun j => [b1559_0, b1559_1, b1559_2, b1559_3, b1559_4].getD j [], fun _ => [], 24, 6)
def b1560_0 : List Instr := [.iload 1, .i2l, .bipush 0, .bipush 9, .invokeinterface 1538 3, .invokeinterface 1543 1, .bipush 0, .lstore 3, .sipush 0, .istore 5, .goto_w 1]
def b1560_1 : List Instr := [.iload 5, .aload 0, .getfield 24624, .if_icmp .ge 6, .aload 0, .getfield 24619, .iload 5, .aaload, .astore 6, .sipush 0, .istore 7, .goto_w 2]
def b1560_2 : List Instr := [.iload 7, .aload 6, .getfield 60440, .if_icmp .ge 5, .aload 6, .getfield 60448, .ifCond .le 5, .aload 6, .getfield 60416, .iload 2, .if_icmp .gt 5, .lload 3, .aload 6, .getfield 60427, .iload 7, .iaload, .iload 1, .if_icmp .ne 3, .aload 6, .getfield 60435, .iload 7, .laload, .goto 4]
def b1560_3 : List Instr := [.bipush 0, .goto_w 4]
def b1560_4 : List Instr := [.ladd, .lstore 3, .iinc 7 1, .goto 2]
def b1560_5 : List Instr := [.iinc 5 1, .goto 1]
def b1560_6 : List Instr := [.lload 3, .lreturn]
/-- TimberHouse$ShopDesks.balance(II)J -/
def m1560 : pm_M := (fun j => [b1560_0, b1560_1, b1560_2, b1560_3, b1560_4, b1560_5, b1560_6].getD j [], fun _ => [], 24, 8)
def b1561_0 : List Instr := [.iload 1, .i2l, .bipush 0, .bipush 119, .invokeinterface 1538 3, .invokeinterface 1539 1, .iload 1, .aload 0, .getfield 24640, .if_icmp .le 1, .sipush 1, .goto 2]
def b1561_1 : List Instr := [.sipush 0, .goto_w 2]
def b1561_2 : List Instr := [.istore 2, .aload 0, .aload 0, .getfield 24640, .iload 1, .invokeinterface 3841 2, .putfield 24640, .iload 2, .jsr 2]
/-- TimberHouse$ShopDesks.closeMonth(I)Z -/
def m1561 : pm_M := (fun j => [b1561_0, b1561_1, b1561_2].getD j [], fun _ => [], 24, 3)
def b1562_0 : List Instr := [.iload 1, .i2l, .bipush 1, .aload 0, .getfield 24632, .i2l, .invokeinterface 1538 3, .invokeinterface 1543 1, .iload 2, .i2l, .bipush 0, .bipush 3599, .invokeinterface 1538 3, .invokeinterface 1539 1, .sipush 0, .istore 3, .goto_w 1]
def b1562_1 : List Instr := [.aload 0, .getfield 24619, .iload 3, .aaload, .getfield 60448, .iload 1, .if_icmp .eq 2, .iinc 3 1, .goto 1]
def b1562_2 : List Instr := [.aload 0, .getfield 24619, .iload 3, .aaload, .astore 4, .aload 4, .getfield 60458, .ifCond .ne 3, .aload 0, .getfield 24624, .sipush 60, .if_icmp .ge 3, .sipush 1, .goto 4]
def b1562_3 : List Instr := [.sipush 0, .goto_w 4]
def b1562_4 : List Instr := [.invokeinterface 1540 1, .aload 0, .iload 2, .invokeinterface 1545 2, .ifCond .eq 5, .sipush 0, .jsr 0]
def b1562_5 : List Instr := [.new 59, .dup, .iload 2, .invokeinterface 3776 2, .astore 5, .sipush 0, .istore 6, .goto_w 6]
def b1562_6 : List Instr := [.iload 6, .aload 4, .getfield 60440, .if_icmp .ge 7, .aload 5, .aload 4, .getfield 60427, .iload 6, .iaload, .aload 4, .getfield 60435, .iload 6, .laload, .lneg, .invokeinterface 3777 3, .iinc 6 1, .goto 6]
def b1562_7 : List Instr := [.aload 4, .aload 5, .sipush 1, .dup_x1, .putfield 60458, .putfield 60458, .aload 5, .aload 0, .dup, .getfield 24632, .sipush 1, .iadd, .dup_x1, .putfield 24632, .putfield 60448, .aload 0, .getfield 24619, .aload 0, .dup, .getfield 24624, .dup_x1, .sipush 1, .iadd, .putfield 24624, .aload 5, .aastore, .aload 5, .getfield 60448, .jsr 0]
/-- TimberHouse$ShopDesks.reverse(II)I -/
def m1562 : pm_M := (fun j => [b1562_0, b1562_1, b1562_2, b1562_3, b1562_4, b1562_5, b1562_6, b1562_7].getD j [], fun _ => [], 24, 7)
def b1600_0 : List Instr := [.aload 0, .f2i, .aload 0, .sipush 10, .newarray .int, .putfield 25611, .aload 0, .new 26, .dup, .sipush 12, .sipush 1, .invokeinterface 1664 3, .putfield 25619, .aload 0, .new 27, .dup, .sipush 100, .sipush 240, .sipush 10, .invokeinterface 1728 4, .putfield 25627, .aload 0, .new 28, .dup, .sipush 10, .sipush 10, .invokeinterface 1792 3, .putfield 25635, .aload 0, .new 29, .dup, .invokeinterface 1856 1, .putfield 25643, .aload 0, .new 30, .dup, .invokeinterface 1920 1, .putfield 25651, .aload 0, .new 31, .dup, .sipush 0, .sipush 3, .sipush 2, .invokeinterface 1984 4, .putfield 25659, .aload 0, .new 32, .dup, .sipush 20, .invokeinterface 2048 2, .putfield 25667, .aload 0, .new 33, .dup, .sipush 1, .invokeinterface 2112 2, .putfield 25675, .aload 0, .new 34, .dup, .invokeinterface 2176 1, .putfield 25683, .aload 0, .new 35, .dup, .invokeinterface 2240 1, .putfield 25691, .aload 0, .sipush 20, .putfield 25696, .return_]
/-- TimberHouseModel.<init>()V -/
def m1600 : pm_M := (fun j => [b1600_0].getD j [], fun _ => [], 25, 1)
def b1601_0 : List Instr := [.aload 0, .getfield 25600, .jsr 0]
/-- TimberHouseModel.thrown()I -/
def m1601 : pm_M := (fun j => [b1601_0].getD j [], fun _ => [], 25, 1)
def b1602_0 : List Instr := [.aload 0, .sipush 0, .putfield 25600, .iload 1, .ifCond .ge 1, .bipush (-9000000000000000000), .lreturn]
def b1602_1 : List Instr := [.iload 1, .sipush 600, .if_icmp .ne 5, .aload 0, .getfield 25611, .sipush 6, .iaload, .sipush 4, .if_icmp .ge 5, .aload 0, .iload 2, .sipush 2, .if_icmp .ge 2, .sipush 2, .goto 4]
def b1602_2 : List Instr := [.iload 2, .sipush 20, .if_icmp .le 3, .sipush 20, .goto 4]
def b1602_3 : List Instr := [.iload 2, .goto_w 4]
def b1602_4 : List Instr := [.putfield 25696, .goto_w 5]
def b1602_5 : List Instr := [.iload 1, .sipush 100, .idiv, .tableswitch 16 0 9 #[6, 7, 8, 9, 10, 11, 12, 13, 14, 15]]
def b1602_6 : List Instr := [.aload 0, .iload 1, .iload 2, .iload 3, .iload 4, .iload 5, .iload 6, .iload 7, .invokeinterface 1603 8, .lreturn]
def b1602_7 : List Instr := [.aload 0, .iload 1, .iload 2, .iload 3, .iload 4, .iload 5, .iload 6, .iload 7, .invokeinterface 1606 8, .lreturn]
def b1602_8 : List Instr := [.aload 0, .iload 1, .iload 2, .iload 3, .iload 4, .iload 5, .iload 6, .iload 7, .invokeinterface 1607 8, .lreturn]
def b1602_9 : List Instr := [.aload 0, .iload 1, .iload 2, .iload 3, .iload 4, .iload 5, .iload 6, .iload 7, .invokeinterface 1608 8, .lreturn]
def b1602_10 : List Instr := [.aload 0, .iload 1, .iload 2, .iload 3, .iload 4, .iload 5, .iload 6, .iload 7, .invokeinterface 1609 8, .lreturn]
def b1602_11 : List Instr := [.aload 0, .iload 1, .iload 2, .iload 3, .iload 4, .iload 5, .iload 6, .iload 7, .invokeinterface 1610 8, .lreturn]
def b1602_12 : List Instr := [.aload 0, .iload 1, .iload 2, .iload 3, .iload 4, .iload 5, .iload 6, .iload 7, .invokeinterface 1611 8, .lreturn]
def b1602_13 : List Instr := [.aload 0, .iload 1, .iload 2, .iload 3, .iload 4, .iload 5, .iload 6, .iload 7, .invokeinterface 1612 8, .lreturn]
def b1602_14 : List Instr := [.aload 0, .iload 1, .iload 2, .iload 3, .iload 4, .iload 5, .iload 6, .iload 7, .invokeinterface 1613 8, .lreturn]
def b1602_15 : List Instr := [.aload 0, .iload 1, .iload 2, .iload 3, .iload 4, .iload 5, .iload 6, .iload 7, .invokeinterface 1614 8, .lreturn]
def b1602_16 : List Instr := [.bipush (-9000000000000000000), .lreturn]
/-- TimberHouseModel.act(IIIIIII)J -/
def m1602 : pm_M := (fun j => [b1602_0, b1602_1, b1602_2, b1602_3, b1602_4, b1602_5, b1602_6, b1602_7, b1602_8, b1602_9, b1602_10, b1602_11, b1602_12, b1602_13, b1602_14, b1602_15, b1602_16].getD j [], fun _ => [], 25, 8)
def b1603_0 : List Instr := [.iload 1, .tableswitch 25 0 12 #[1, 3, 8, 9, 12, 13, 14, 15, 16, 17, 18, 21, 24]]
def b1603_1 : List Instr := [.aload 0, .sipush 0, .invokeinterface 1604 2, .ifCond .ne 2, .bipush 0, .lreturn]
def b1603_2 : List Instr := [.aload 0, .new 26, .dup, .iload 2, .iload 3, .invokeinterface 1664 3, .putfield 25619, .bipush 1, .lreturn]
def b1603_3 : List Instr := [.aload 0, .aload 0, .getfield 25619, .iload 2, .iload 3, .iload 4, .iload 5, .ifCond .eq 4, .sipush 1, .goto 5]
def b1603_4 : List Instr := [.sipush 0, .goto_w 5]
def b1603_5 : List Instr := [.invokeinterface 1665 5, .ifCond .eq 6, .bipush 1, .goto 7]
def b1603_6 : List Instr := [.bipush 0, .goto_w 7]
def b1603_7 : List Instr := [.aload 0, .getfield 25619, .invokeinterface 1668 1, .sipush 100, .invokeinterface 1605 4, .lreturn]
def b1603_8 : List Instr := [.aload 0, .getfield 25619, .iload 2, .iload 3, .iload 4, .iload 5, .invokeinterface 1669 5, .aload 0, .bipush 0, .aload 0, .getfield 25619, .invokeinterface 1668 1, .sipush 120, .invokeinterface 1605 4, .lreturn]
def b1603_9 : List Instr := [.aload 0, .aload 0, .getfield 25619, .iload 2, .iload 3, .iload 4, .invokeinterface 1670 4, .ifCond .eq 10, .bipush 1, .goto 11]
def b1603_10 : List Instr := [.bipush 0, .goto_w 11]
def b1603_11 : List Instr := [.aload 0, .getfield 25619, .invokeinterface 1668 1, .sipush 120, .invokeinterface 1605 4, .lreturn]
def b1603_12 : List Instr := [.aload 0, .aload 0, .getfield 25619, .iload 2, .iload 3, .iload 4, .iload 5, .invokeinterface 1671 5, .i2l, .aload 0, .getfield 25619, .invokeinterface 1668 1, .sipush 230, .invokeinterface 1605 4, .lreturn]
def b1603_13 : List Instr := [.aload 0, .aload 0, .getfield 25619, .invokeinterface 1672 1, .i2l, .aload 0, .getfield 25619, .invokeinterface 1668 1, .sipush 0, .invokeinterface 1605 4, .lreturn]
def b1603_14 : List Instr := [.aload 0, .aload 0, .getfield 25619, .iload 2, .iload 3, .invokeinterface 1693 3, .i2l, .aload 0, .getfield 25619, .invokeinterface 1668 1, .sipush 310, .invokeinterface 1605 4, .lreturn]
def b1603_15 : List Instr := [.aload 0, .aload 0, .getfield 25619, .iload 2, .invokeinterface 1695 2, .i2l, .aload 0, .getfield 25619, .invokeinterface 1668 1, .sipush 310, .invokeinterface 1605 4, .lreturn]
def b1603_16 : List Instr := [.aload 0, .aload 0, .getfield 25619, .iload 2, .invokeinterface 1696 2, .i2l, .aload 0, .getfield 25619, .invokeinterface 1668 1, .sipush 100, .invokeinterface 1605 4, .lreturn]
def b1603_17 : List Instr := [.aload 0, .aload 0, .getfield 25619, .iload 2, .invokeinterface 1697 2, .i2l, .aload 0, .getfield 25619, .invokeinterface 1668 1, .sipush 310, .invokeinterface 1605 4, .lreturn]
def b1603_18 : List Instr := [.aload 0, .aload 0, .getfield 25619, .iload 2, .iload 3, .iload 4, .iload 5, .invokeinterface 1699 5, .ifCond .eq 19, .bipush 1, .goto 20]
def b1603_19 : List Instr := [.bipush 0, .goto_w 20]
def b1603_20 : List Instr := [.aload 0, .getfield 25619, .invokeinterface 1668 1, .sipush 100, .invokeinterface 1605 4, .lreturn]
def b1603_21 : List Instr := [.aload 0, .aload 0, .getfield 25619, .iload 2, .iload 3, .invokeinterface 1700 3, .ifCond .eq 22, .bipush 1, .goto 23]
def b1603_22 : List Instr := [.bipush 0, .goto_w 23]
def b1603_23 : List Instr := [.aload 0, .getfield 25619, .invokeinterface 1668 1, .sipush 310, .invokeinterface 1605 4, .lreturn]
def b1603_24 : List Instr := [.aload 0, .aload 0, .getfield 25619, .invokeinterface 1702 1, .i2l, .aload 0, .getfield 25619, .invokeinterface 1668 1, .sipush 0, .invokeinterface 1605 4, .lreturn]
def b1603_25 : List Instr := [.bipush (-9000000000000000000), .lreturn]
/-- TimberHouseModel.saw(IIIIIII)J -/
def m1603 : pm_M := (fun j => [b1603_0, b1603_1, b1603_2, b1603_3, b1603_4, b1603_5, b1603_6, b1603_7, b1603_8, b1603_9, b1603_10, b1603_11, b1603_12, b1603_13, b1603_14, b1603_15, b1603_16, b1603_17, b1603_18, b1603_19, b1603_20, b1603_21, b1603_22, b1603_23, b1603_24, b1603_25].getD j [], fun _ => [], 25, 8)
def b1604_0 : List Instr := [.aload 0, .getfield 25611, .iload 1, .iaload, .sipush 4, .if_icmp .ne 1, .sipush 0, .jsr 2]
def b1604_1 : List Instr := [.aload 0, .getfield 25611, .iload 1, .dup2, .iaload, .sipush 1, .iadd, .iastore, .sipush 1, .jsr 2]
/-- TimberHouseModel.anew(I)Z -/
def m1604 : pm_M := (fun j => [b1604_0, b1604_1].getD j [], fun _ => [], 25, 2)
def b1605_0 : List Instr := [.aload 0, .iload 3, .sipush 1, .if_icmp .ne 1, .iload 4, .sipush 100, .idiv, .goto 4]
def b1605_1 : List Instr := [.iload 3, .sipush 2, .if_icmp .ne 2, .iload 4, .sipush 10, .idiv, .sipush 10, .irem, .goto 4]
def b1605_2 : List Instr := [.iload 3, .sipush 3, .if_icmp .ne 3, .iload 4, .sipush 10, .irem, .goto 4]
def b1605_3 : List Instr := [.sipush 0, .goto_w 4]
def b1605_4 : List Instr := [.putfield 25600, .lload 1, .lreturn]
/-- TimberHouseModel.told(JII)J -/
def m1605 : pm_M := (fun j => [b1605_0, b1605_1, b1605_2, b1605_3, b1605_4].getD j [], fun _ => [], 25, 5)
def b1606_0 : List Instr := [.iload 1, .tableswitch 36 100 117 #[1, 3, 6, 7, 10, 13, 16, 19, 22, 23, 24, 25, 26, 29, 30, 31, 32, 33]]
def b1606_1 : List Instr := [.aload 0, .sipush 1, .invokeinterface 1604 2, .ifCond .ne 2, .bipush 0, .lreturn]
def b1606_2 : List Instr := [.aload 0, .new 27, .dup, .iload 2, .iload 3, .iload 4, .invokeinterface 1728 4, .putfield 25627, .bipush 1, .lreturn]
def b1606_3 : List Instr := [.aload 0, .aload 0, .getfield 25627, .iload 2, .iload 3, .iload 4, .iload 5, .iload 6, .iload 7, .invokeinterface 1730 7, .ifCond .eq 4, .bipush 1, .goto 5]
def b1606_4 : List Instr := [.bipush 0, .goto_w 5]
def b1606_5 : List Instr := [.aload 0, .getfield 25627, .invokeinterface 1733 1, .sipush 132, .invokeinterface 1605 4, .lreturn]
def b1606_6 : List Instr := [.aload 0, .aload 0, .getfield 25627, .iload 2, .iload 3, .iload 4, .iload 5, .i2l, .invokeinterface 1734 5, .i2l, .aload 0, .getfield 25627, .invokeinterface 1733 1, .sipush 320, .invokeinterface 1605 4, .lreturn]
def b1606_7 : List Instr := [.aload 0, .aload 0, .getfield 25627, .iload 2, .iload 3, .iload 4, .invokeinterface 1736 4, .ifCond .eq 8, .bipush 1, .goto 9]
def b1606_8 : List Instr := [.bipush 0, .goto_w 9]
def b1606_9 : List Instr := [.aload 0, .getfield 25627, .invokeinterface 1733 1, .sipush 120, .invokeinterface 1605 4, .lreturn]
def b1606_10 : List Instr := [.aload 0, .aload 0, .getfield 25627, .iload 2, .invokeinterface 1738 2, .ifCond .eq 11, .bipush 1, .goto 12]
def b1606_11 : List Instr := [.bipush 0, .goto_w 12]
def b1606_12 : List Instr := [.aload 0, .getfield 25627, .invokeinterface 1733 1, .sipush 200, .invokeinterface 1605 4, .lreturn]
def b1606_13 : List Instr := [.aload 0, .aload 0, .getfield 25627, .iload 2, .iload 3, .invokeinterface 1739 3, .ifCond .eq 14, .bipush 1, .goto 15]
def b1606_14 : List Instr := [.bipush 0, .goto_w 15]
def b1606_15 : List Instr := [.aload 0, .getfield 25627, .invokeinterface 1733 1, .sipush 120, .invokeinterface 1605 4, .lreturn]
def b1606_16 : List Instr := [.aload 0, .aload 0, .getfield 25627, .iload 2, .invokeinterface 1740 2, .ifCond .eq 17, .bipush 1, .goto 18]
def b1606_17 : List Instr := [.bipush 0, .goto_w 18]
def b1606_18 : List Instr := [.aload 0, .getfield 25627, .invokeinterface 1733 1, .sipush 200, .invokeinterface 1605 4, .lreturn]
def b1606_19 : List Instr := [.aload 0, .aload 0, .getfield 25627, .iload 2, .invokeinterface 1741 2, .ifCond .eq 20, .bipush 1, .goto 21]
def b1606_20 : List Instr := [.bipush 0, .goto_w 21]
def b1606_21 : List Instr := [.aload 0, .getfield 25627, .invokeinterface 1733 1, .sipush 200, .invokeinterface 1605 4, .lreturn]
def b1606_22 : List Instr := [.aload 0, .aload 0, .getfield 25627, .iload 2, .iload 3, .invokeinterface 1742 3, .i2l, .aload 0, .getfield 25627, .invokeinterface 1733 1, .sipush 200, .invokeinterface 1605 4, .lreturn]
def b1606_23 : List Instr := [.aload 0, .aload 0, .getfield 25627, .iload 2, .invokeinterface 1762 2, .i2l, .aload 0, .getfield 25627, .invokeinterface 1733 1, .sipush 200, .invokeinterface 1605 4, .lreturn]
def b1606_24 : List Instr := [.aload 0, .aload 0, .getfield 25627, .invokeinterface 1771 1, .aload 0, .getfield 25627, .invokeinterface 1733 1, .sipush 300, .invokeinterface 1605 4, .lreturn]
def b1606_25 : List Instr := [.aload 0, .aload 0, .getfield 25627, .iload 2, .iload 3, .invokeinterface 1773 3, .i2l, .aload 0, .getfield 25627, .invokeinterface 1733 1, .sipush 312, .invokeinterface 1605 4, .lreturn]
def b1606_26 : List Instr := [.aload 0, .aload 0, .getfield 25627, .iload 2, .invokeinterface 1774 2, .ifCond .eq 27, .bipush 1, .goto 28]
def b1606_27 : List Instr := [.bipush 0, .goto_w 28]
def b1606_28 : List Instr := [.aload 0, .getfield 25627, .invokeinterface 1733 1, .sipush 310, .invokeinterface 1605 4, .lreturn]
def b1606_29 : List Instr := [.aload 0, .aload 0, .getfield 25627, .invokeinterface 1775 1, .aload 0, .getfield 25627, .invokeinterface 1733 1, .sipush 300, .invokeinterface 1605 4, .lreturn]
def b1606_30 : List Instr := [.aload 0, .aload 0, .getfield 25627, .iload 2, .iload 3, .invokeinterface 1776 3, .aload 0, .getfield 25627, .invokeinterface 1733 1, .sipush 310, .invokeinterface 1605 4, .lreturn]
def b1606_31 : List Instr := [.aload 0, .aload 0, .getfield 25627, .iload 2, .iload 3, .invokeinterface 1777 3, .i2l, .aload 0, .getfield 25627, .invokeinterface 1733 1, .sipush 312, .invokeinterface 1605 4, .lreturn]
def b1606_32 : List Instr := [.aload 0, .aload 0, .getfield 25627, .iload 2, .iload 3, .invokeinterface 1780 3, .i2l, .aload 0, .getfield 25627, .invokeinterface 1733 1, .sipush 320, .invokeinterface 1605 4, .lreturn]
def b1606_33 : List Instr := [.aload 0, .aload 0, .getfield 25627, .invokeinterface 1781 1, .ifCond .eq 34, .bipush 1, .goto 35]
def b1606_34 : List Instr := [.bipush 0, .goto_w 35]
def b1606_35 : List Instr := [.aload 0, .getfield 25627, .invokeinterface 1733 1, .sipush 300, .invokeinterface 1605 4, .lreturn]
def b1606_36 : List Instr := [.bipush (-9000000000000000000), .lreturn]
/-- TimberHouseModel.rips(IIIIIII)J -/
def m1606 : pm_M := (fun j => [b1606_0, b1606_1, b1606_2, b1606_3, b1606_4, b1606_5, b1606_6, b1606_7, b1606_8, b1606_9, b1606_10, b1606_11, b1606_12, b1606_13, b1606_14, b1606_15, b1606_16, b1606_17, b1606_18, b1606_19, b1606_20, b1606_21, b1606_22, b1606_23, b1606_24, b1606_25, b1606_26, b1606_27, b1606_28, b1606_29, b1606_30, b1606_31, b1606_32, b1606_33, b1606_34, b1606_35, b1606_36].getD j [], fun _ => [], 25, 8)
def b1607_0 : List Instr := [.iload 1, .tableswitch 30 200 215 #[1, 3, 4, 7, 10, 15, 16, 17, 18, 19, 20, 21, 24, 27, 28, 29]]
def b1607_1 : List Instr := [.aload 0, .sipush 2, .invokeinterface 1604 2, .ifCond .ne 2, .bipush 0, .lreturn]
def b1607_2 : List Instr := [.aload 0, .new 28, .dup, .iload 2, .iload 3, .invokeinterface 1792 3, .putfield 25635, .bipush 1, .lreturn]
def b1607_3 : List Instr := [.aload 0, .aload 0, .getfield 25635, .iload 2, .iload 3, .invokeinterface 1794 3, .i2l, .aload 0, .getfield 25635, .invokeinterface 1796 1, .sipush 320, .invokeinterface 1605 4, .lreturn]
def b1607_4 : List Instr := [.aload 0, .aload 0, .getfield 25635, .iload 2, .iload 3, .i2l, .invokeinterface 1797 3, .ifCond .eq 5, .bipush 1, .goto 6]
def b1607_5 : List Instr := [.bipush 0, .goto_w 6]
def b1607_6 : List Instr := [.aload 0, .getfield 25635, .invokeinterface 1796 1, .sipush 200, .invokeinterface 1605 4, .lreturn]
def b1607_7 : List Instr := [.aload 0, .aload 0, .getfield 25635, .iload 2, .iload 3, .invokeinterface 1798 3, .ifCond .eq 8, .bipush 1, .goto 9]
def b1607_8 : List Instr := [.bipush 0, .goto_w 9]
def b1607_9 : List Instr := [.aload 0, .getfield 25635, .invokeinterface 1796 1, .sipush 200, .invokeinterface 1605 4, .lreturn]
def b1607_10 : List Instr := [.aload 0, .aload 0, .getfield 25635, .iload 2, .iload 3, .ifCond .eq 11, .sipush 1, .goto 12]
def b1607_11 : List Instr := [.sipush 0, .goto_w 12]
def b1607_12 : List Instr := [.invokeinterface 1799 3, .ifCond .eq 13, .bipush 1, .goto 14]
def b1607_13 : List Instr := [.bipush 0, .goto_w 14]
def b1607_14 : List Instr := [.aload 0, .getfield 25635, .invokeinterface 1796 1, .sipush 200, .invokeinterface 1605 4, .lreturn]
def b1607_15 : List Instr := [.aload 0, .aload 0, .getfield 25635, .invokeinterface 1800 1, .i2l, .aload 0, .getfield 25635, .invokeinterface 1796 1, .sipush 0, .invokeinterface 1605 4, .lreturn]
def b1607_16 : List Instr := [.aload 0, .aload 0, .getfield 25635, .iload 2, .invokeinterface 1811 2, .i2l, .aload 0, .getfield 25635, .invokeinterface 1796 1, .sipush 200, .invokeinterface 1605 4, .lreturn]
def b1607_17 : List Instr := [.aload 0, .aload 0, .getfield 25635, .iload 2, .invokeinterface 1813 2, .i2l, .aload 0, .getfield 25635, .invokeinterface 1796 1, .sipush 310, .invokeinterface 1605 4, .lreturn]
def b1607_18 : List Instr := [.aload 0, .aload 0, .getfield 25635, .iload 2, .invokeinterface 1815 2, .aload 0, .getfield 25635, .invokeinterface 1796 1, .sipush 310, .invokeinterface 1605 4, .lreturn]
def b1607_19 : List Instr := [.aload 0, .aload 0, .getfield 25635, .iload 2, .iload 3, .invokeinterface 1816 3, .i2l, .aload 0, .getfield 25635, .invokeinterface 1796 1, .sipush 312, .invokeinterface 1605 4, .lreturn]
def b1607_20 : List Instr := [.aload 0, .aload 0, .getfield 25635, .iload 2, .iload 3, .invokeinterface 1817 3, .i2l, .aload 0, .getfield 25635, .invokeinterface 1796 1, .sipush 312, .invokeinterface 1605 4, .lreturn]
def b1607_21 : List Instr := [.aload 0, .aload 0, .getfield 25635, .iload 2, .iload 3, .invokeinterface 1818 3, .ifCond .eq 22, .bipush 1, .goto 23]
def b1607_22 : List Instr := [.bipush 0, .goto_w 23]
def b1607_23 : List Instr := [.aload 0, .getfield 25635, .invokeinterface 1796 1, .sipush 312, .invokeinterface 1605 4, .lreturn]
def b1607_24 : List Instr := [.aload 0, .aload 0, .getfield 25635, .iload 2, .iload 3, .invokeinterface 1819 3, .ifCond .eq 25, .bipush 1, .goto 26]
def b1607_25 : List Instr := [.bipush 0, .goto_w 26]
def b1607_26 : List Instr := [.aload 0, .getfield 25635, .invokeinterface 1796 1, .sipush 310, .invokeinterface 1605 4, .lreturn]
def b1607_27 : List Instr := [.aload 0, .aload 0, .getfield 25635, .iload 2, .iload 3, .i2d, .ldc2_w 4620693217682128896, .ddiv, .invokeinterface 1820 3, .i2l, .aload 0, .getfield 25635, .invokeinterface 1796 1, .sipush 312, .invokeinterface 1605 4, .lreturn]
def b1607_28 : List Instr := [.aload 0, .aload 0, .getfield 25635, .iload 2, .invokeinterface 1822 2, .aload 0, .getfield 25635, .invokeinterface 1796 1, .sipush 100, .invokeinterface 1605 4, .lreturn]
def b1607_29 : List Instr := [.aload 0, .aload 0, .getfield 25635, .iload 2, .invokeinterface 1823 2, .i2l, .aload 0, .getfield 25635, .invokeinterface 1796 1, .sipush 100, .invokeinterface 1605 4, .lreturn]
def b1607_30 : List Instr := [.bipush (-9000000000000000000), .lreturn]
/-- TimberHouseModel.fingers(IIIIIII)J -/
def m1607 : pm_M := (fun j => [b1607_0, b1607_1, b1607_2, b1607_3, b1607_4, b1607_5, b1607_6, b1607_7, b1607_8, b1607_9, b1607_10, b1607_11, b1607_12, b1607_13, b1607_14, b1607_15, b1607_16, b1607_17, b1607_18, b1607_19, b1607_20, b1607_21, b1607_22, b1607_23, b1607_24, b1607_25, b1607_26, b1607_27, b1607_28, b1607_29, b1607_30].getD j [], fun _ => [], 25, 8)
def b1608_0 : List Instr := [.iload 1, .tableswitch 36 300 325 #[1, 3, 4, 5, 10, 11, 12, 13, 14, 15, 16, 17, 18, 19, 22, 23, 24, 25, 26, 27, 28, 31, 32, 33, 34, 35]]
def b1608_1 : List Instr := [.aload 0, .sipush 3, .invokeinterface 1604 2, .ifCond .ne 2, .bipush 0, .lreturn]
def b1608_2 : List Instr := [.aload 0, .new 29, .dup, .invokeinterface 1856 1, .putfield 25643, .bipush 1, .lreturn]
def b1608_3 : List Instr := [.aload 0, .getfield 25643, .iload 2, .invokeinterface 1857 2, .aload 0, .bipush 0, .aload 0, .getfield 25643, .invokeinterface 1859 1, .sipush 200, .invokeinterface 1605 4, .lreturn]
def b1608_4 : List Instr := [.aload 0, .aload 0, .getfield 25643, .iload 2, .iload 3, .invokeinterface 1860 3, .i2l, .aload 0, .getfield 25643, .invokeinterface 1859 1, .sipush 230, .invokeinterface 1605 4, .lreturn]
def b1608_5 : List Instr := [.aload 0, .aload 0, .getfield 25643, .iload 2, .iload 3, .iload 4, .iload 5, .iload 6, .ifCond .eq 6, .sipush 1, .goto 7]
def b1608_6 : List Instr := [.sipush 0, .goto_w 7]
def b1608_7 : List Instr := [.invokeinterface 1864 6, .ifCond .eq 8, .bipush 1, .goto 9]
def b1608_8 : List Instr := [.bipush 0, .goto_w 9]
def b1608_9 : List Instr := [.aload 0, .getfield 25643, .invokeinterface 1859 1, .sipush 230, .invokeinterface 1605 4, .lreturn]
def b1608_10 : List Instr := [.aload 0, .aload 0, .getfield 25643, .invokeinterface 1867 1, .i2l, .aload 0, .getfield 25643, .invokeinterface 1859 1, .sipush 300, .invokeinterface 1605 4, .lreturn]
def b1608_11 : List Instr := [.aload 0, .aload 0, .getfield 25643, .iload 2, .iload 3, .invokeinterface 1870 3, .i2l, .aload 0, .getfield 25643, .invokeinterface 1859 1, .sipush 100, .invokeinterface 1605 4, .lreturn]
def b1608_12 : List Instr := [.aload 0, .aload 0, .getfield 25643, .iload 2, .iload 3, .invokeinterface 1873 3, .i2l, .aload 0, .getfield 25643, .invokeinterface 1859 1, .sipush 100, .invokeinterface 1605 4, .lreturn]
def b1608_13 : List Instr := [.aload 0, .aload 0, .getfield 25643, .iload 2, .invokeinterface 1875 2, .i2l, .aload 0, .getfield 25643, .invokeinterface 1859 1, .sipush 230, .invokeinterface 1605 4, .lreturn]
def b1608_14 : List Instr := [.aload 0, .aload 0, .getfield 25643, .iload 2, .iload 3, .iload 4, .invokeinterface 1876 4, .i2l, .aload 0, .getfield 25643, .invokeinterface 1859 1, .sipush 100, .invokeinterface 1605 4, .lreturn]
def b1608_15 : List Instr := [.aload 0, .aload 0, .getfield 25643, .iload 2, .iload 3, .invokeinterface 1878 3, .i2l, .aload 0, .getfield 25643, .invokeinterface 1859 1, .sipush 100, .invokeinterface 1605 4, .lreturn]
def b1608_16 : List Instr := [.aload 0, .aload 0, .getfield 25643, .iload 2, .iload 3, .iload 4, .iload 5, .invokeinterface 1879 5, .i2l, .aload 0, .getfield 25643, .invokeinterface 1859 1, .sipush 120, .invokeinterface 1605 4, .lreturn]
def b1608_17 : List Instr := [.aload 0, .aload 0, .getfield 25643, .iload 2, .iload 3, .iload 4, .iload 5, .iload 6, .invokeinterface 1882 6, .i2l, .aload 0, .getfield 25643, .invokeinterface 1859 1, .sipush 120, .invokeinterface 1605 4, .lreturn]
def b1608_18 : List Instr := [.aload 0, .aload 0, .getfield 25643, .iload 2, .iload 3, .iload 4, .invokeinterface 1883 4, .i2l, .aload 0, .getfield 25643, .invokeinterface 1859 1, .sipush 123, .invokeinterface 1605 4, .lreturn]
def b1608_19 : List Instr := [.aload 0, .aload 0, .getfield 25643, .iload 2, .iload 3, .ifCond .eq 20, .sipush 1, .goto 21]
def b1608_20 : List Instr := [.sipush 0, .goto_w 21]
def b1608_21 : List Instr := [.invokeinterface 1885 3, .aload 0, .getfield 25643, .invokeinterface 1859 1, .sipush 100, .invokeinterface 1605 4, .lreturn]
def b1608_22 : List Instr := [.aload 0, .aload 0, .getfield 25643, .iload 2, .iload 3, .iload 4, .invokeinterface 1886 4, .i2l, .aload 0, .getfield 25643, .invokeinterface 1859 1, .sipush 120, .invokeinterface 1605 4, .lreturn]
def b1608_23 : List Instr := [.aload 0, .aload 0, .getfield 25643, .iload 2, .iload 3, .invokeinterface 1887 3, .i2l, .aload 0, .getfield 25643, .invokeinterface 1859 1, .sipush 100, .invokeinterface 1605 4, .lreturn]
def b1608_24 : List Instr := [.aload 0, .aload 0, .getfield 25643, .invokeinterface 1888 1, .i2l, .aload 0, .getfield 25643, .invokeinterface 1859 1, .sipush 300, .invokeinterface 1605 4, .lreturn]
def b1608_25 : List Instr := [.aload 0, .aload 0, .getfield 25643, .iload 2, .iload 3, .iload 4, .invokeinterface 1889 4, .i2l, .aload 0, .getfield 25643, .invokeinterface 1859 1, .sipush 123, .invokeinterface 1605 4, .lreturn]
def b1608_26 : List Instr := [.aload 0, .aload 0, .getfield 25643, .iload 2, .iload 3, .iload 4, .invokeinterface 1890 4, .aload 0, .getfield 25643, .invokeinterface 1859 1, .sipush 100, .invokeinterface 1605 4, .lreturn]
def b1608_27 : List Instr := [.aload 0, .aload 0, .getfield 25643, .iload 2, .iload 3, .invokeinterface 1892 3, .aload 0, .getfield 25643, .invokeinterface 1859 1, .sipush 100, .invokeinterface 1605 4, .lreturn]
def b1608_28 : List Instr := [.aload 0, .aload 0, .getfield 25643, .iload 2, .invokeinterface 1894 2, .ifCond .eq 29, .bipush 1, .goto 30]
def b1608_29 : List Instr := [.bipush 0, .goto_w 30]
def b1608_30 : List Instr := [.aload 0, .getfield 25643, .invokeinterface 1859 1, .sipush 100, .invokeinterface 1605 4, .lreturn]
def b1608_31 : List Instr := [.aload 0, .aload 0, .getfield 25643, .iload 2, .iload 3, .iload 4, .invokeinterface 1895 4, .aload 0, .getfield 25643, .invokeinterface 1859 1, .sipush 120, .invokeinterface 1605 4, .lreturn]
def b1608_32 : List Instr := [.aload 0, .getfield 25643, .iload 2, .iload 3, .invokeinterface 1896 3, .aload 0, .bipush 0, .aload 0, .getfield 25643, .invokeinterface 1859 1, .sipush 200, .invokeinterface 1605 4, .lreturn]
def b1608_33 : List Instr := [.aload 0, .aload 0, .getfield 25643, .iload 2, .iload 3, .invokeinterface 1897 3, .aload 0, .getfield 25643, .invokeinterface 1859 1, .sipush 123, .invokeinterface 1605 4, .lreturn]
def b1608_34 : List Instr := [.aload 0, .aload 0, .getfield 25643, .iload 2, .iload 3, .invokeinterface 1898 3, .i2l, .aload 0, .getfield 25643, .invokeinterface 1859 1, .sipush 230, .invokeinterface 1605 4, .lreturn]
def b1608_35 : List Instr := [.aload 0, .aload 0, .getfield 25643, .iload 2, .iload 3, .invokeinterface 1899 3, .i2l, .aload 0, .getfield 25643, .invokeinterface 1859 1, .sipush 130, .invokeinterface 1605 4, .lreturn]
def b1608_36 : List Instr := [.bipush (-9000000000000000000), .lreturn]
/-- TimberHouseModel.turned(IIIIIII)J -/
def m1608 : pm_M := (fun j => [b1608_0, b1608_1, b1608_2, b1608_3, b1608_4, b1608_5, b1608_6, b1608_7, b1608_8, b1608_9, b1608_10, b1608_11, b1608_12, b1608_13, b1608_14, b1608_15, b1608_16, b1608_17, b1608_18, b1608_19, b1608_20, b1608_21, b1608_22, b1608_23, b1608_24, b1608_25, b1608_26, b1608_27, b1608_28, b1608_29, b1608_30, b1608_31, b1608_32, b1608_33, b1608_34, b1608_35, b1608_36].getD j [], fun _ => [], 25, 8)
def b1609_0 : List Instr := [.iload 1, .tableswitch 28 400 417 #[1, 3, 6, 7, 8, 9, 10, 11, 12, 15, 16, 17, 18, 19, 20, 23, 24, 27]]
def b1609_1 : List Instr := [.aload 0, .sipush 4, .invokeinterface 1604 2, .ifCond .ne 2, .bipush 0, .lreturn]
def b1609_2 : List Instr := [.aload 0, .new 30, .dup, .invokeinterface 1920 1, .putfield 25651, .bipush 1, .lreturn]
def b1609_3 : List Instr := [.aload 0, .aload 0, .getfield 25651, .iload 2, .invokeinterface 1921 2, .ifCond .eq 4, .bipush 1, .goto 5]
def b1609_4 : List Instr := [.bipush 0, .goto_w 5]
def b1609_5 : List Instr := [.aload 0, .getfield 25651, .invokeinterface 1922 1, .sipush 0, .invokeinterface 1605 4, .lreturn]
def b1609_6 : List Instr := [.aload 0, .aload 0, .getfield 25651, .invokeinterface 1923 1, .i2l, .aload 0, .getfield 25651, .invokeinterface 1922 1, .sipush 0, .invokeinterface 1605 4, .lreturn]
def b1609_7 : List Instr := [.aload 0, .aload 0, .getfield 25651, .iload 2, .iload 3, .invokeinterface 1932 3, .i2l, .aload 0, .getfield 25651, .invokeinterface 1922 1, .sipush 100, .invokeinterface 1605 4, .lreturn]
def b1609_8 : List Instr := [.aload 0, .getfield 25651, .iload 2, .iload 3, .invokeinterface 1935 3, .aload 0, .bipush 0, .aload 0, .getfield 25651, .invokeinterface 1922 1, .sipush 120, .invokeinterface 1605 4, .lreturn]
def b1609_9 : List Instr := [.aload 0, .aload 0, .getfield 25651, .iload 2, .iload 3, .iload 4, .iload 5, .iload 6, .invokeinterface 1936 6, .aload 0, .getfield 25651, .invokeinterface 1922 1, .sipush 120, .invokeinterface 1605 4, .lreturn]
def b1609_10 : List Instr := [.aload 0, .aload 0, .getfield 25651, .iload 2, .iload 3, .i2l, .invokeinterface 1938 3, .aload 0, .getfield 25651, .invokeinterface 1922 1, .sipush 200, .invokeinterface 1605 4, .lreturn]
def b1609_11 : List Instr := [.aload 0, .aload 0, .getfield 25651, .iload 2, .i2l, .iload 3, .i2l, .invokeinterface 1940 3, .i2l, .aload 0, .getfield 25651, .invokeinterface 1922 1, .sipush 200, .invokeinterface 1605 4, .lreturn]
def b1609_12 : List Instr := [.aload 0, .aload 0, .getfield 25651, .iload 2, .iload 3, .iload 4, .iload 5, .invokeinterface 1941 5, .ifCond .eq 13, .bipush 1, .goto 14]
def b1609_13 : List Instr := [.bipush 0, .goto_w 14]
def b1609_14 : List Instr := [.aload 0, .getfield 25651, .invokeinterface 1922 1, .sipush 120, .invokeinterface 1605 4, .lreturn]
def b1609_15 : List Instr := [.aload 0, .aload 0, .getfield 25651, .iload 2, .iload 3, .invokeinterface 1944 3, .i2l, .aload 0, .getfield 25651, .invokeinterface 1922 1, .sipush 310, .invokeinterface 1605 4, .lreturn]
def b1609_16 : List Instr := [.aload 0, .aload 0, .getfield 25651, .iload 2, .iload 3, .invokeinterface 1945 3, .i2l, .aload 0, .getfield 25651, .invokeinterface 1922 1, .sipush 230, .invokeinterface 1605 4, .lreturn]
def b1609_17 : List Instr := [.aload 0, .getfield 25651, .invokeinterface 1946 1, .aload 0, .bipush 0, .aload 0, .getfield 25651, .invokeinterface 1922 1, .sipush 0, .invokeinterface 1605 4, .lreturn]
def b1609_18 : List Instr := [.aload 0, .aload 0, .getfield 25651, .iload 2, .iload 3, .iload 4, .invokeinterface 1947 4, .i2l, .aload 0, .getfield 25651, .invokeinterface 1922 1, .sipush 120, .invokeinterface 1605 4, .lreturn]
def b1609_19 : List Instr := [.aload 0, .aload 0, .getfield 25651, .iload 2, .iload 3, .iload 4, .iload 5, .iload 6, .invokeinterface 1948 6, .i2l, .aload 0, .getfield 25651, .invokeinterface 1922 1, .sipush 230, .invokeinterface 1605 4, .lreturn]
def b1609_20 : List Instr := [.aload 0, .aload 0, .getfield 25651, .iload 2, .iload 3, .iload 4, .invokeinterface 1950 4, .ifCond .eq 21, .bipush 1, .goto 22]
def b1609_21 : List Instr := [.bipush 0, .goto_w 22]
def b1609_22 : List Instr := [.aload 0, .getfield 25651, .invokeinterface 1922 1, .sipush 120, .invokeinterface 1605 4, .lreturn]
def b1609_23 : List Instr := [.aload 0, .aload 0, .getfield 25651, .iload 2, .iload 3, .iload 4, .iload 5, .iload 6, .iload 7, .invokeinterface 1953 7, .i2l, .aload 0, .getfield 25651, .invokeinterface 1922 1, .sipush 120, .invokeinterface 1605 4, .lreturn]
def b1609_24 : List Instr := [.aload 0, .aload 0, .getfield 25651, .iload 2, .iload 3, .invokeinterface 1954 3, .ifCond .eq 25, .bipush 1, .goto 26]
def b1609_25 : List Instr := [.bipush 0, .goto_w 26]
def b1609_26 : List Instr := [.aload 0, .getfield 25651, .invokeinterface 1922 1, .sipush 120, .invokeinterface 1605 4, .lreturn]
def b1609_27 : List Instr := [.aload 0, .aload 0, .getfield 25651, .iload 2, .invokeinterface 1955 2, .i2l, .aload 0, .getfield 25651, .invokeinterface 1922 1, .sipush 100, .invokeinterface 1605 4, .lreturn]
def b1609_28 : List Instr := [.bipush (-9000000000000000000), .lreturn]
/-- TimberHouseModel.nails(IIIIIII)J -/
def m1609 : pm_M := (fun j => [b1609_0, b1609_1, b1609_2, b1609_3, b1609_4, b1609_5, b1609_6, b1609_7, b1609_8, b1609_9, b1609_10, b1609_11, b1609_12, b1609_13, b1609_14, b1609_15, b1609_16, b1609_17, b1609_18, b1609_19, b1609_20, b1609_21, b1609_22, b1609_23, b1609_24, b1609_25, b1609_26, b1609_27, b1609_28].getD j [], fun _ => [], 25, 8)
def b1610_0 : List Instr := [.iload 1, .tableswitch 16 500 511 #[1, 3, 4, 7, 8, 9, 10, 11, 12, 13, 14, 15]]
def b1610_1 : List Instr := [.aload 0, .sipush 5, .invokeinterface 1604 2, .ifCond .ne 2, .bipush 0, .lreturn]
def b1610_2 : List Instr := [.aload 0, .new 31, .dup, .iload 2, .iload 3, .iload 4, .invokeinterface 1984 4, .putfield 25659, .bipush 1, .lreturn]
def b1610_3 : List Instr := [.aload 0, .aload 0, .getfield 25659, .iload 2, .iload 3, .iload 4, .iload 5, .invokeinterface 1985 5, .i2l, .aload 0, .getfield 25659, .invokeinterface 1987 1, .sipush 230, .invokeinterface 1605 4, .lreturn]
def b1610_4 : List Instr := [.aload 0, .aload 0, .getfield 25659, .iload 2, .iload 3, .iload 4, .iload 5, .ifCond .eq 5, .sipush 1, .goto 6]
def b1610_5 : List Instr := [.sipush 0, .goto_w 6]
def b1610_6 : List Instr := [.invokeinterface 1988 5, .i2l, .aload 0, .getfield 25659, .invokeinterface 1987 1, .sipush 230, .invokeinterface 1605 4, .lreturn]
def b1610_7 : List Instr := [.aload 0, .aload 0, .getfield 25659, .iload 2, .iload 3, .invokeinterface 1989 3, .i2l, .aload 0, .getfield 25659, .invokeinterface 1987 1, .sipush 120, .invokeinterface 1605 4, .lreturn]
def b1610_8 : List Instr := [.aload 0, .aload 0, .getfield 25659, .iload 2, .iload 3, .iload 4, .iload 5, .invokeinterface 1990 5, .i2l, .aload 0, .getfield 25659, .invokeinterface 1987 1, .sipush 200, .invokeinterface 1605 4, .lreturn]
def b1610_9 : List Instr := [.aload 0, .aload 0, .getfield 25659, .invokeinterface 1997 1, .i2l, .aload 0, .getfield 25659, .invokeinterface 1987 1, .sipush 0, .invokeinterface 1605 4, .lreturn]
def b1610_10 : List Instr := [.aload 0, .aload 0, .getfield 25659, .iload 2, .iload 3, .invokeinterface 2003 3, .i2l, .aload 0, .getfield 25659, .invokeinterface 1987 1, .sipush 310, .invokeinterface 1605 4, .lreturn]
def b1610_11 : List Instr := [.aload 0, .aload 0, .getfield 25659, .iload 2, .iload 3, .iload 4, .invokeinterface 2006 4, .i2l, .aload 0, .getfield 25659, .invokeinterface 1987 1, .sipush 310, .invokeinterface 1605 4, .lreturn]
def b1610_12 : List Instr := [.aload 0, .aload 0, .getfield 25659, .iload 2, .iload 3, .iload 4, .invokeinterface 2007 4, .i2l, .aload 0, .getfield 25659, .invokeinterface 1987 1, .sipush 310, .invokeinterface 1605 4, .lreturn]
def b1610_13 : List Instr := [.aload 0, .aload 0, .getfield 25659, .iload 2, .invokeinterface 2008 2, .i2l, .aload 0, .getfield 25659, .invokeinterface 1987 1, .sipush 310, .invokeinterface 1605 4, .lreturn]
def b1610_14 : List Instr := [.aload 0, .aload 0, .getfield 25659, .iload 2, .invokeinterface 2009 2, .aload 0, .getfield 25659, .invokeinterface 1987 1, .sipush 310, .invokeinterface 1605 4, .lreturn]
def b1610_15 : List Instr := [.aload 0, .aload 0, .getfield 25659, .invokeinterface 2010 1, .i2l, .aload 0, .getfield 25659, .invokeinterface 1987 1, .sipush 0, .invokeinterface 1605 4, .lreturn]
def b1610_16 : List Instr := [.bipush (-9000000000000000000), .lreturn]
/-- TimberHouseModel.sheets(IIIIIII)J -/
def m1610 : pm_M := (fun j => [b1610_0, b1610_1, b1610_2, b1610_3, b1610_4, b1610_5, b1610_6, b1610_7, b1610_8, b1610_9, b1610_10, b1610_11, b1610_12, b1610_13, b1610_14, b1610_15, b1610_16].getD j [], fun _ => [], 25, 8)
def b1611_0 : List Instr := [.iload 1, .tableswitch 19 600 612 #[1, 3, 4, 7, 8, 11, 12, 13, 14, 15, 16, 17, 18]]
def b1611_1 : List Instr := [.aload 0, .sipush 6, .invokeinterface 1604 2, .ifCond .ne 2, .bipush 0, .lreturn]
def b1611_2 : List Instr := [.aload 0, .new 32, .dup, .iload 2, .invokeinterface 2048 2, .putfield 25667, .bipush 1, .lreturn]
def b1611_3 : List Instr := [.aload 0, .getfield 25667, .iload 2, .iload 3, .iload 4, .iload 5, .iload 6, .invokeinterface 2049 6, .aload 0, .bipush 0, .aload 0, .getfield 25667, .invokeinterface 2053 1, .sipush 120, .invokeinterface 1605 4, .lreturn]
def b1611_4 : List Instr := [.aload 0, .getfield 25667, .iload 2, .iload 3, .iload 4, .iload 5, .iload 6, .ifCond .eq 5, .sipush 1, .goto 6]
def b1611_5 : List Instr := [.sipush 0, .goto_w 6]
def b1611_6 : List Instr := [.invokeinterface 2054 6, .aload 0, .bipush 0, .aload 0, .getfield 25667, .invokeinterface 2053 1, .sipush 120, .invokeinterface 1605 4, .lreturn]
def b1611_7 : List Instr := [.aload 0, .getfield 25667, .iload 2, .iload 3, .iload 4, .invokeinterface 2055 4, .aload 0, .bipush 0, .aload 0, .getfield 25667, .invokeinterface 2053 1, .sipush 120, .invokeinterface 1605 4, .lreturn]
def b1611_8 : List Instr := [.aload 0, .aload 0, .getfield 25667, .iload 2, .invokeinterface 2056 2, .ifCond .eq 9, .bipush 1, .goto 10]
def b1611_9 : List Instr := [.bipush 0, .goto_w 10]
def b1611_10 : List Instr := [.aload 0, .getfield 25667, .invokeinterface 2053 1, .sipush 0, .invokeinterface 1605 4, .lreturn]
def b1611_11 : List Instr := [.aload 0, .aload 0, .getfield 25667, .invokeinterface 2057 1, .i2l, .aload 0, .getfield 25667, .invokeinterface 2053 1, .sipush 0, .invokeinterface 1605 4, .lreturn]
def b1611_12 : List Instr := [.aload 0, .aload 0, .getfield 25667, .invokeinterface 2064 1, .i2l, .aload 0, .getfield 25667, .invokeinterface 2053 1, .sipush 300, .invokeinterface 1605 4, .lreturn]
def b1611_13 : List Instr := [.aload 0, .aload 0, .getfield 25667, .iload 2, .invokeinterface 2070 2, .i2l, .aload 0, .getfield 25667, .invokeinterface 2053 1, .sipush 130, .invokeinterface 1605 4, .lreturn]
def b1611_14 : List Instr := [.aload 0, .aload 0, .getfield 25667, .iload 2, .iload 3, .iload 4, .invokeinterface 2071 4, .i2l, .aload 0, .getfield 25667, .invokeinterface 2053 1, .sipush 100, .invokeinterface 1605 4, .lreturn]
def b1611_15 : List Instr := [.aload 0, .aload 0, .getfield 25667, .iload 2, .invokeinterface 2072 2, .i2l, .aload 0, .getfield 25667, .invokeinterface 2053 1, .sipush 100, .invokeinterface 1605 4, .lreturn]
def b1611_16 : List Instr := [.aload 0, .aload 0, .getfield 25667, .iload 2, .invokeinterface 2073 2, .i2l, .aload 0, .getfield 25667, .invokeinterface 2053 1, .sipush 100, .invokeinterface 1605 4, .lreturn]
def b1611_17 : List Instr := [.aload 0, .aload 0, .getfield 25667, .invokeinterface 2075 1, .i2l, .aload 0, .getfield 25667, .invokeinterface 2053 1, .sipush 0, .invokeinterface 1605 4, .lreturn]
def b1611_18 : List Instr := [.aload 0, .getfield 25667, .invokeinterface 2077 1, .aload 0, .bipush 0, .aload 0, .getfield 25667, .invokeinterface 2053 1, .sipush 0, .invokeinterface 1605 4, .lreturn]
def b1611_19 : List Instr := [.bipush (-9000000000000000000), .lreturn]
/-- TimberHouseModel.router(IIIIIII)J -/
def m1611 : pm_M := (fun j => [b1611_0, b1611_1, b1611_2, b1611_3, b1611_4, b1611_5, b1611_6, b1611_7, b1611_8, b1611_9, b1611_10, b1611_11, b1611_12, b1611_13, b1611_14, b1611_15, b1611_16, b1611_17, b1611_18, b1611_19].getD j [], fun _ => [], 25, 8)
def b1612_0 : List Instr := [.iload 1, .tableswitch 17 700 714 #[1, 3, 4, 5, 6, 7, 8, 9, 10, 11, 12, 13, 14, 15, 16]]
def b1612_1 : List Instr := [.aload 0, .sipush 7, .invokeinterface 1604 2, .ifCond .ne 2, .bipush 0, .lreturn]
def b1612_2 : List Instr := [.aload 0, .new 33, .dup, .iload 2, .invokeinterface 2112 2, .putfield 25675, .bipush 1, .lreturn]
def b1612_3 : List Instr := [.aload 0, .aload 0, .getfield 25675, .iload 2, .invokeinterface 2113 2, .i2l, .aload 0, .getfield 25675, .invokeinterface 2115 1, .sipush 230, .invokeinterface 1605 4, .lreturn]
def b1612_4 : List Instr := [.aload 0, .aload 0, .getfield 25675, .iload 2, .iload 3, .iload 4, .invokeinterface 2116 4, .i2l, .aload 0, .getfield 25675, .invokeinterface 2115 1, .sipush 123, .invokeinterface 1605 4, .lreturn]
def b1612_5 : List Instr := [.aload 0, .aload 0, .getfield 25675, .iload 2, .iload 3, .invokeinterface 2117 3, .i2l, .aload 0, .getfield 25675, .invokeinterface 2115 1, .sipush 230, .invokeinterface 1605 4, .lreturn]
def b1612_6 : List Instr := [.aload 0, .getfield 25675, .iload 2, .iload 3, .invokeinterface 2118 3, .aload 0, .bipush 0, .aload 0, .getfield 25675, .invokeinterface 2115 1, .sipush 120, .invokeinterface 1605 4, .lreturn]
def b1612_7 : List Instr := [.aload 0, .aload 0, .getfield 25675, .iload 2, .iload 3, .iload 4, .iload 5, .invokeinterface 2119 5, .i2l, .aload 0, .getfield 25675, .invokeinterface 2115 1, .sipush 123, .invokeinterface 1605 4, .lreturn]
def b1612_8 : List Instr := [.aload 0, .aload 0, .getfield 25675, .iload 2, .invokeinterface 2120 2, .i2l, .aload 0, .getfield 25675, .invokeinterface 2115 1, .sipush 230, .invokeinterface 1605 4, .lreturn]
def b1612_9 : List Instr := [.aload 0, .aload 0, .getfield 25675, .iload 2, .invokeinterface 2136 2, .i2l, .aload 0, .getfield 25675, .invokeinterface 2115 1, .sipush 230, .invokeinterface 1605 4, .lreturn]
def b1612_10 : List Instr := [.aload 0, .aload 0, .getfield 25675, .iload 2, .iload 3, .invokeinterface 2139 3, .i2l, .aload 0, .getfield 25675, .invokeinterface 2115 1, .sipush 130, .invokeinterface 1605 4, .lreturn]
def b1612_11 : List Instr := [.aload 0, .aload 0, .getfield 25675, .iload 2, .invokeinterface 2140 2, .i2l, .aload 0, .getfield 25675, .invokeinterface 2115 1, .sipush 310, .invokeinterface 1605 4, .lreturn]
def b1612_12 : List Instr := [.aload 0, .aload 0, .getfield 25675, .iload 2, .invokeinterface 2141 2, .aload 0, .getfield 25675, .invokeinterface 2115 1, .sipush 130, .invokeinterface 1605 4, .lreturn]
def b1612_13 : List Instr := [.aload 0, .aload 0, .getfield 25675, .iload 2, .invokeinterface 2142 2, .aload 0, .getfield 25675, .invokeinterface 2115 1, .sipush 130, .invokeinterface 1605 4, .lreturn]
def b1612_14 : List Instr := [.aload 0, .aload 0, .getfield 25675, .iload 2, .invokeinterface 2143 2, .i2l, .aload 0, .getfield 25675, .invokeinterface 2115 1, .sipush 130, .invokeinterface 1605 4, .lreturn]
def b1612_15 : List Instr := [.aload 0, .aload 0, .getfield 25675, .iload 2, .invokeinterface 2144 2, .i2l, .aload 0, .getfield 25675, .invokeinterface 2115 1, .sipush 230, .invokeinterface 1605 4, .lreturn]
def b1612_16 : List Instr := [.aload 0, .aload 0, .getfield 25675, .invokeinterface 2146 1, .i2l, .aload 0, .getfield 25675, .invokeinterface 2115 1, .sipush 300, .invokeinterface 1605 4, .lreturn]
def b1612_17 : List Instr := [.bipush (-9000000000000000000), .lreturn]
/-- TimberHouseModel.plans(IIIIIII)J -/
def m1612 : pm_M := (fun j => [b1612_0, b1612_1, b1612_2, b1612_3, b1612_4, b1612_5, b1612_6, b1612_7, b1612_8, b1612_9, b1612_10, b1612_11, b1612_12, b1612_13, b1612_14, b1612_15, b1612_16, b1612_17].getD j [], fun _ => [], 25, 8)
def b1613_0 : List Instr := [.iload 1, .tableswitch 26 800 817 #[1, 3, 6, 7, 8, 11, 12, 13, 14, 15, 16, 17, 18, 19, 20, 21, 22, 25]]
def b1613_1 : List Instr := [.aload 0, .sipush 8, .invokeinterface 1604 2, .ifCond .ne 2, .bipush 0, .lreturn]
def b1613_2 : List Instr := [.aload 0, .new 34, .dup, .invokeinterface 2176 1, .putfield 25683, .bipush 1, .lreturn]
def b1613_3 : List Instr := [.aload 0, .aload 0, .getfield 25683, .iload 2, .invokeinterface 2177 2, .ifCond .eq 4, .bipush 1, .goto 5]
def b1613_4 : List Instr := [.bipush 0, .goto_w 5]
def b1613_5 : List Instr := [.aload 0, .getfield 25683, .invokeinterface 2179 1, .sipush 0, .invokeinterface 1605 4, .lreturn]
def b1613_6 : List Instr := [.aload 0, .aload 0, .getfield 25683, .invokeinterface 2180 1, .i2l, .aload 0, .getfield 25683, .invokeinterface 2179 1, .sipush 0, .invokeinterface 1605 4, .lreturn]
def b1613_7 : List Instr := [.aload 0, .getfield 25683, .iload 2, .iload 3, .iload 4, .invokeinterface 2185 4, .aload 0, .bipush 0, .aload 0, .getfield 25683, .invokeinterface 2179 1, .sipush 120, .invokeinterface 1605 4, .lreturn]
def b1613_8 : List Instr := [.aload 0, .aload 0, .getfield 25683, .iload 2, .invokeinterface 2191 2, .ifCond .eq 9, .bipush 1, .goto 10]
def b1613_9 : List Instr := [.bipush 0, .goto_w 10]
def b1613_10 : List Instr := [.aload 0, .getfield 25683, .invokeinterface 2179 1, .sipush 100, .invokeinterface 1605 4, .lreturn]
def b1613_11 : List Instr := [.aload 0, .aload 0, .getfield 25683, .invokeinterface 2192 1, .i2l, .aload 0, .getfield 25683, .invokeinterface 2179 1, .sipush 0, .invokeinterface 1605 4, .lreturn]
def b1613_12 : List Instr := [.aload 0, .aload 0, .getfield 25683, .invokeinterface 2201 1, .aload 0, .getfield 25683, .invokeinterface 2179 1, .sipush 0, .invokeinterface 1605 4, .lreturn]
def b1613_13 : List Instr := [.aload 0, .aload 0, .getfield 25683, .iload 2, .iload 3, .invokeinterface 2203 3, .aload 0, .getfield 25683, .invokeinterface 2179 1, .sipush 100, .invokeinterface 1605 4, .lreturn]
def b1613_14 : List Instr := [.aload 0, .aload 0, .getfield 25683, .iload 2, .iload 3, .iload 4, .invokeinterface 2204 4, .aload 0, .getfield 25683, .invokeinterface 2179 1, .sipush 120, .invokeinterface 1605 4, .lreturn]
def b1613_15 : List Instr := [.aload 0, .aload 0, .getfield 25683, .iload 2, .iload 3, .iload 4, .invokeinterface 2205 4, .i2l, .aload 0, .getfield 25683, .invokeinterface 2179 1, .sipush 230, .invokeinterface 1605 4, .lreturn]
def b1613_16 : List Instr := [.aload 0, .aload 0, .getfield 25683, .iload 2, .invokeinterface 2206 2, .aload 0, .getfield 25683, .invokeinterface 2179 1, .sipush 200, .invokeinterface 1605 4, .lreturn]
def b1613_17 : List Instr := [.aload 0, .aload 0, .getfield 25683, .iload 2, .invokeinterface 2208 2, .i2l, .aload 0, .getfield 25683, .invokeinterface 2179 1, .sipush 230, .invokeinterface 1605 4, .lreturn]
def b1613_18 : List Instr := [.aload 0, .aload 0, .getfield 25683, .iload 2, .iload 3, .invokeinterface 2209 3, .aload 0, .getfield 25683, .invokeinterface 2179 1, .sipush 123, .invokeinterface 1605 4, .lreturn]
def b1613_19 : List Instr := [.aload 0, .aload 0, .getfield 25683, .iload 2, .iload 3, .invokeinterface 2211 3, .aload 0, .getfield 25683, .invokeinterface 2179 1, .sipush 100, .invokeinterface 1605 4, .lreturn]
def b1613_20 : List Instr := [.aload 0, .aload 0, .getfield 25683, .iload 2, .iload 3, .invokeinterface 2212 3, .i2l, .aload 0, .getfield 25683, .invokeinterface 2179 1, .sipush 123, .invokeinterface 1605 4, .lreturn]
def b1613_21 : List Instr := [.aload 0, .aload 0, .getfield 25683, .iload 2, .invokeinterface 2213 2, .aload 0, .getfield 25683, .invokeinterface 2179 1, .sipush 100, .invokeinterface 1605 4, .lreturn]
def b1613_22 : List Instr := [.aload 0, .aload 0, .getfield 25683, .iload 2, .iload 3, .invokeinterface 2215 3, .ifCond .eq 23, .bipush 1, .goto 24]
def b1613_23 : List Instr := [.bipush 0, .goto_w 24]
def b1613_24 : List Instr := [.aload 0, .getfield 25683, .invokeinterface 2179 1, .sipush 120, .invokeinterface 1605 4, .lreturn]
def b1613_25 : List Instr := [.aload 0, .aload 0, .getfield 25683, .iload 2, .iload 3, .invokeinterface 2216 3, .i2l, .aload 0, .getfield 25683, .invokeinterface 2179 1, .sipush 120, .invokeinterface 1605 4, .lreturn]
def b1613_26 : List Instr := [.bipush (-9000000000000000000), .lreturn]
/-- TimberHouseModel.prices(IIIIIII)J -/
def m1613 : pm_M := (fun j => [b1613_0, b1613_1, b1613_2, b1613_3, b1613_4, b1613_5, b1613_6, b1613_7, b1613_8, b1613_9, b1613_10, b1613_11, b1613_12, b1613_13, b1613_14, b1613_15, b1613_16, b1613_17, b1613_18, b1613_19, b1613_20, b1613_21, b1613_22, b1613_23, b1613_24, b1613_25, b1613_26].getD j [], fun _ => [], 25, 8)
def b1614_0 : List Instr := [.iload 1, .tableswitch 32 900 917 #[1, 3, 4, 5, 6, 9, 10, 11, 12, 13, 18, 23, 24, 25, 26, 27, 28, 31]]
def b1614_1 : List Instr := [.aload 0, .sipush 9, .invokeinterface 1604 2, .ifCond .ne 2, .bipush 0, .lreturn]
def b1614_2 : List Instr := [.aload 0, .new 35, .dup, .invokeinterface 2240 1, .putfield 25691, .bipush 1, .lreturn]
def b1614_3 : List Instr := [.aload 0, .aload 0, .getfield 25691, .iload 2, .iload 3, .i2l, .iload 4, .iload 5, .iload 6, .i2l, .iload 7, .i2l, .invokeinterface 2241 7, .i2l, .aload 0, .getfield 25691, .invokeinterface 2245 1, .sipush 123, .invokeinterface 1605 4, .lreturn]
def b1614_4 : List Instr := [.aload 0, .aload 0, .getfield 25691, .iload 2, .invokeinterface 2246 2, .i2l, .aload 0, .getfield 25691, .invokeinterface 2245 1, .sipush 130, .invokeinterface 1605 4, .lreturn]
def b1614_5 : List Instr := [.aload 0, .aload 0, .getfield 25691, .iload 2, .iload 3, .invokeinterface 2247 3, .i2l, .aload 0, .getfield 25691, .invokeinterface 2245 1, .sipush 100, .invokeinterface 1605 4, .lreturn]
def b1614_6 : List Instr := [.aload 0, .aload 0, .getfield 25691, .iload 2, .iload 3, .invokeinterface 2251 3, .ifCond .eq 7, .bipush 1, .goto 8]
def b1614_7 : List Instr := [.bipush 0, .goto_w 8]
def b1614_8 : List Instr := [.aload 0, .getfield 25691, .invokeinterface 2245 1, .sipush 100, .invokeinterface 1605 4, .lreturn]
def b1614_9 : List Instr := [.aload 0, .aload 0, .getfield 25691, .iload 2, .iload 3, .iload 4, .iload 5, .i2l, .invokeinterface 2252 5, .aload 0, .getfield 25691, .invokeinterface 2245 1, .sipush 120, .invokeinterface 1605 4, .lreturn]
def b1614_10 : List Instr := [.aload 0, .aload 0, .getfield 25691, .iload 2, .iload 3, .invokeinterface 2260 3, .i2l, .aload 0, .getfield 25691, .invokeinterface 2245 1, .sipush 120, .invokeinterface 1605 4, .lreturn]
def b1614_11 : List Instr := [.aload 0, .aload 0, .getfield 25691, .iload 2, .invokeinterface 2262 2, .i2l, .aload 0, .getfield 25691, .invokeinterface 2245 1, .sipush 100, .invokeinterface 1605 4, .lreturn]
def b1614_12 : List Instr := [.aload 0, .aload 0, .getfield 25691, .iload 2, .iload 3, .iload 4, .iload 5, .invokeinterface 2263 5, .aload 0, .getfield 25691, .invokeinterface 2245 1, .sipush 120, .invokeinterface 1605 4, .lreturn]
def b1614_13 : List Instr := [.aload 0, .aload 0, .getfield 25691, .iload 2, .iload 3, .ifCond .eq 14, .sipush 1, .goto 15]
def b1614_14 : List Instr := [.sipush 0, .goto_w 15]
def b1614_15 : List Instr := [.invokeinterface 2264 3, .ifCond .eq 16, .bipush 1, .goto 17]
def b1614_16 : List Instr := [.bipush 0, .goto_w 17]
def b1614_17 : List Instr := [.aload 0, .getfield 25691, .invokeinterface 2245 1, .sipush 100, .invokeinterface 1605 4, .lreturn]
def b1614_18 : List Instr := [.aload 0, .aload 0, .getfield 25691, .iload 2, .iload 3, .iload 4, .ifCond .eq 19, .sipush 1, .goto 20]
def b1614_19 : List Instr := [.sipush 0, .goto_w 20]
def b1614_20 : List Instr := [.invokeinterface 2265 4, .ifCond .eq 21, .bipush 1, .goto 22]
def b1614_21 : List Instr := [.bipush 0, .goto_w 22]
def b1614_22 : List Instr := [.aload 0, .getfield 25691, .invokeinterface 2245 1, .sipush 120, .invokeinterface 1605 4, .lreturn]
def b1614_23 : List Instr := [.aload 0, .aload 0, .getfield 25691, .iload 2, .iload 3, .iload 4, .iload 5, .invokeinterface 2266 5, .aload 0, .getfield 25691, .invokeinterface 2245 1, .sipush 123, .invokeinterface 1605 4, .lreturn]
def b1614_24 : List Instr := [.aload 0, .aload 0, .getfield 25691, .iload 2, .invokeinterface 2267 2, .i2l, .aload 0, .getfield 25691, .invokeinterface 2245 1, .sipush 230, .invokeinterface 1605 4, .lreturn]
def b1614_25 : List Instr := [.aload 0, .aload 0, .getfield 25691, .iload 2, .iload 3, .iload 4, .i2l, .invokeinterface 2269 4, .i2l, .aload 0, .getfield 25691, .invokeinterface 2245 1, .sipush 123, .invokeinterface 1605 4, .lreturn]
def b1614_26 : List Instr := [.aload 0, .aload 0, .getfield 25691, .iload 2, .invokeinterface 2272 2, .i2l, .aload 0, .getfield 25691, .invokeinterface 2245 1, .sipush 130, .invokeinterface 1605 4, .lreturn]
def b1614_27 : List Instr := [.aload 0, .aload 0, .getfield 25691, .iload 2, .iload 3, .invokeinterface 2274 3, .aload 0, .getfield 25691, .invokeinterface 2245 1, .sipush 100, .invokeinterface 1605 4, .lreturn]
def b1614_28 : List Instr := [.aload 0, .aload 0, .getfield 25691, .iload 2, .invokeinterface 2275 2, .ifCond .eq 29, .bipush 1, .goto 30]
def b1614_29 : List Instr := [.bipush 0, .goto_w 30]
def b1614_30 : List Instr := [.aload 0, .getfield 25691, .invokeinterface 2245 1, .sipush 200, .invokeinterface 1605 4, .lreturn]
def b1614_31 : List Instr := [.aload 0, .aload 0, .getfield 25691, .iload 2, .iload 3, .invokeinterface 2276 3, .i2l, .aload 0, .getfield 25691, .invokeinterface 2245 1, .sipush 123, .invokeinterface 1605 4, .lreturn]
def b1614_32 : List Instr := [.bipush (-9000000000000000000), .lreturn]
/-- TimberHouseModel.shop(IIIIIII)J -/
def m1614 : pm_M := (fun j => [b1614_0, b1614_1, b1614_2, b1614_3, b1614_4, b1614_5, b1614_6, b1614_7, b1614_8, b1614_9, b1614_10, b1614_11, b1614_12, b1614_13, b1614_14, b1614_15, b1614_16, b1614_17, b1614_18, b1614_19, b1614_20, b1614_21, b1614_22, b1614_23, b1614_24, b1614_25, b1614_26, b1614_27, b1614_28, b1614_29, b1614_30, b1614_31, b1614_32].getD j [], fun _ => [], 25, 8)
def b1615_0 : List Instr := [.aload 0, .sipush 0, .putfield 25600, .aload 0, .getfield 25619, .iload 1, .sipush 3, .invokeinterface 1693 3, .istore 3, .aload 0, .getfield 25619, .invokeinterface 1668 1, .ifCond .gt 1, .iload 2, .sipush 10, .if_icmp .lt 1, .iload 2, .sipush 240, .if_icmp .le 2, .goto_w 1]
def b1615_1 : List Instr := [.sipush (-1), .jsr 0]
def b1615_2 : List Instr := [.aload 0, .getfield 25619, .iload 1, .sipush 4, .invokeinterface 1693 3, .istore 4, .aload 0, .sipush 1, .invokeinterface 1604 2, .ifCond .ne 3, .sipush (-1), .jsr 0]
def b1615_3 : List Instr := [.aload 0, .new 27, .dup, .sipush 10, .iload 3, .iload 4, .if_icmp .le 4, .iload 3, .goto 5]
def b1615_4 : List Instr := [.iload 4, .goto_w 5]
def b1615_5 : List Instr := [.imul, .iload 2, .sipush 10, .invokeinterface 1728 4, .putfield 25627, .sipush 1, .jsr 0]
/-- TimberHouseModel.rip(II)I -/
def m1615 : pm_M := (fun j => [b1615_0, b1615_1, b1615_2, b1615_3, b1615_4, b1615_5].getD j [], fun _ => [], 25, 5)
def b1616_0 : List Instr := [.aload 0, .sipush 0, .putfield 25600, .aload 0, .getfield 25627, .sipush (-1), .sipush 0, .invokeinterface 1773 3, .istore 2, .aload 0, .getfield 25627, .invokeinterface 1733 1, .ifCond .gt 1, .iload 1, .ifCond .ge 2, .goto_w 1]
def b1616_1 : List Instr := [.sipush (-1), .jsr 0]
def b1616_2 : List Instr := [.sipush 0, .istore 3, .sipush 1, .istore 4, .sipush 0, .istore 5, .goto_w 3]
def b1616_3 : List Instr := [.iload 5, .iload 2, .if_icmp .ge 9, .iload 4, .ifCond .eq 9, .aload 0, .getfield 25627, .iload 5, .sipush 2, .invokeinterface 1773 3, .istore 6, .aload 0, .getfield 25627, .iload 5, .sipush 4, .invokeinterface 1773 3, .istore 7, .iload 6, .iload 1, .if_icmp .lt 8, .aload 0, .getfield 25635, .sipush 10, .iload 6, .imul, .iload 7, .invokeinterface 1794 3, .istore 8, .aload 0, .getfield 25635, .invokeinterface 1796 1, .ifCond .ne 4, .iload 8, .ifCond .lt 4, .sipush 1, .goto 5]
def b1616_4 : List Instr := [.sipush 0, .goto_w 5]
def b1616_5 : List Instr := [.istore 4, .iload 3, .iload 4, .ifCond .eq 6, .sipush 1, .goto 7]
def b1616_6 : List Instr := [.sipush 0, .goto_w 7]
def b1616_7 : List Instr := [.iadd, .istore 3, .goto_w 8]
def b1616_8 : List Instr := [.iinc 5 1, .goto 3]
def b1616_9 : List Instr := [.iload 3, .jsr 0]
/-- TimberHouseModel.fingers(I)I -/
def m1616 : pm_M := (fun j => [b1616_0, b1616_1, b1616_2, b1616_3, b1616_4, b1616_5, b1616_6, b1616_7, b1616_8, b1616_9].getD j [], fun _ => [], 25, 9)
def b1617_0 : List Instr := [.aload 0, .sipush 0, .putfield 25600, .aload 0, .invokeinterface 1618 1, .istore 3, .iload 3, .ifCond .ge 1, .sipush (-1), .jsr 0]
def b1617_1 : List Instr := [.sipush 0, .istore 4, .sipush 0, .istore 5, .goto_w 2]
def b1617_2 : List Instr := [.iload 5, .iload 3, .if_icmp .ge 3, .iload 4, .aload 0, .getfield 25659, .iload 5, .sipush 5, .invokeinterface 2003 3, .iadd, .istore 4, .iinc 5 1, .goto 2]
def b1617_3 : List Instr := [.aload 0, .iload 1, .iload 2, .iload 4, .sipush 59, .iadd, .sipush 60, .idiv, .invokeinterface 1619 4, .jsr 0]
/-- TimberHouseModel.hours(II)I -/
def m1617 : pm_M := (fun j => [b1617_0, b1617_1, b1617_2, b1617_3].getD j [], fun _ => [], 25, 6)
def b1618_0 : List Instr := [.aload 0, .getfield 25659, .sipush 0, .invokeinterface 2009 2, .lstore 1, .aload 0, .getfield 25659, .invokeinterface 1987 1, .ifCond .gt 1, .lload 1, .bipush 0, .lcmp, .ifCond .ge 2, .goto_w 1]
def b1618_1 : List Instr := [.sipush (-1), .jsr 0]
def b1618_2 : List Instr := [.sipush 0, .istore 3, .aload 0, .getfield 25659, .iload 3, .sipush 0, .invokeinterface 2003 3, .istore 4, .goto_w 3]
def b1618_3 : List Instr := [.aload 0, .getfield 25659, .invokeinterface 1987 1, .ifCond .ne 4, .iload 4, .ifCond .lt 4, .iinc 3 1, .aload 0, .getfield 25659, .iload 3, .sipush 0, .invokeinterface 2003 3, .istore 4, .goto 3]
def b1618_4 : List Instr := [.iload 3, .jsr 0]
/-- TimberHouseModel.cutSheets()I -/
def m1618 : pm_M := (fun j => [b1618_0, b1618_1, b1618_2, b1618_3, b1618_4].getD j [], fun _ => [], 25, 5)
def b1619_0 : List Instr := [.iload 3, .sipush 1, .if_icmp .ge 1, .sipush 1, .goto 3]
def b1619_1 : List Instr := [.iload 3, .sipush 100, .if_icmp .le 2, .sipush 100, .goto 3]
def b1619_2 : List Instr := [.iload 3, .goto_w 3]
def b1619_3 : List Instr := [.istore 4, .aload 0, .getfield 25675, .iload 1, .iload 2, .iload 4, .sipush 0, .invokeinterface 2119 5, .istore 5, .aload 0, .getfield 25675, .invokeinterface 2115 1, .ifCond .le 4, .sipush (-1), .goto 5]
def b1619_4 : List Instr := [.iload 5, .goto_w 5]
def b1619_5 : List Instr := [.jsr 0]
/-- TimberHouseModel.addStep(III)I -/
def m1619 : pm_M := (fun j => [b1619_0, b1619_1, b1619_2, b1619_3, b1619_4, b1619_5].getD j [], fun _ => [], 25, 6)
def b1620_0 : List Instr := [.aload 0, .sipush 0, .putfield 25600, .aload 0, .getfield 25643, .iload 1, .iload 2, .sipush 10, .sipush 1, .invokeinterface 1879 5, .istore 5, .aload 0, .getfield 25643, .invokeinterface 1859 1, .ifCond .le 1, .sipush (-1), .goto 2]
def b1620_1 : List Instr := [.aload 0, .iload 3, .iload 4, .iload 5, .invokeinterface 1619 4, .goto_w 2]
def b1620_2 : List Instr := [.jsr 0]
/-- TimberHouseModel.passes(IIII)I -/
def m1620 : pm_M := (fun j => [b1620_0, b1620_1, b1620_2].getD j [], fun _ => [], 25, 6)
def b1621_0 : List Instr := [.aload 0, .sipush 0, .putfield 25600, .aload 0, .getfield 25659, .iload 1, .sipush 1, .invokeinterface 2003 3, .istore 3, .aload 0, .getfield 25659, .invokeinterface 1987 1, .ifCond .gt 1, .iload 2, .ifCond .lt 1, .iload 2, .sipush 99, .if_icmp .le 2, .goto_w 1]
def b1621_1 : List Instr := [.sipush (-1), .jsr 0]
def b1621_2 : List Instr := [.sipush 0, .istore 4, .sipush 1, .istore 5, .sipush 0, .istore 6, .goto_w 3]
def b1621_3 : List Instr := [.iload 6, .iload 3, .if_icmp .ge 7, .iload 5, .ifCond .eq 7, .aload 0, .getfield 25659, .iload 1, .iload 6, .sipush 1, .invokeinterface 2006 4, .istore 7, .aload 0, .getfield 25659, .iload 1, .iload 6, .sipush 2, .invokeinterface 2006 4, .istore 8, .aload 0, .getfield 25659, .iload 1, .iload 6, .sipush 3, .invokeinterface 2006 4, .istore 9, .iload 7, .iload 9, .iadd, .aload 0, .getfield 25696, .if_icmp .gt 6, .iload 8, .aload 0, .getfield 25696, .if_icmp .ge 6, .aload 0, .iload 7, .iload 8, .iload 9, .iload 2, .invokeinterface 1622 5, .istore 5, .iload 4, .iload 5, .ifCond .eq 4, .sipush 1, .goto 5]
def b1621_4 : List Instr := [.sipush 0, .goto_w 5]
def b1621_5 : List Instr := [.iadd, .istore 4, .goto_w 6]
def b1621_6 : List Instr := [.iinc 6 1, .goto 3]
def b1621_7 : List Instr := [.aload 0, .dup, .getfield 25704, .iload 4, .iadd, .putfield 25704, .iload 4, .jsr 0]
/-- TimberHouseModel.route(II)I -/
def m1621 : pm_M := (fun j => [b1621_0, b1621_1, b1621_2, b1621_3, b1621_4, b1621_5, b1621_6, b1621_7].getD j [], fun _ => [], 25, 10)
def b1622_0 : List Instr := [.aload 0, .ldc 0, .invokeinterface 1623 2, .ifCond .eq 1, .aload 0, .iload 1, .invokeinterface 1625 2, .ifCond .eq 1, .aload 0, .ldc 1, .invokeinterface 1623 2, .ifCond .eq 1, .aload 0, .iload 2, .invokeinterface 1625 2, .ifCond .eq 1, .aload 0, .ldc 2, .invokeinterface 1623 2, .ifCond .eq 1, .aload 0, .iload 4, .invokeinterface 1625 2, .ifCond .eq 1, .aload 0, .ldc 3, .invokeinterface 1623 2, .ifCond .eq 1, .aload 0, .iload 1, .iload 3, .iadd, .sipush 1, .isub, .invokeinterface 1625 2, .ifCond .eq 1, .aload 0, .ldc 4, .invokeinterface 1623 2, .ifCond .eq 1, .sipush 1, .goto 2]
def b1622_1 : List Instr := [.sipush 0, .goto_w 2]
def b1622_2 : List Instr := [.jsr 2]
/-- TimberHouseModel.typePart(IIII)Z -/
def m1622 : pm_M := (fun j => [b1622_0, b1622_1, b1622_2].getD j [], fun _ => [], 25, 5)
def b1623_0 : List Instr := [.sipush 1, .istore 2, .sipush 0, .istore 3, .goto_w 1]
def b1623_1 : List Instr := [.iload 3, .aload 1, .d2i, .if_icmp .ge 2, .iload 2, .ifCond .eq 2, .aload 0, .aload 1, .iload 3, .d2l, .invokeinterface 1624 2, .istore 2, .iinc 3 1, .goto 1]
def b1623_2 : List Instr := [.iload 2, .jsr 2]
/-- TimberHouseModel.typeWord(Ljava/lang/String;)Z -/
def m1623 : pm_M := (fun j => [b1623_0, b1623_1, b1623_2].getD j [], fun _ => [], 25, 4)
def b1624_0 : List Instr := [.aload 0, .getfield 25667, .iload 1, .invokeinterface 2056 2, .ifCond .eq 1, .aload 0, .getfield 25667, .invokeinterface 2053 1, .ifCond .ne 1, .sipush 1, .goto 2]
def b1624_1 : List Instr := [.sipush 0, .goto_w 2]
def b1624_2 : List Instr := [.jsr 2]
/-- TimberHouseModel.type(I)Z -/
def m1624 : pm_M := (fun j => [b1624_0, b1624_1, b1624_2].getD j [], fun _ => [], 25, 2)
def b1625_0 : List Instr := [.sipush 1, .istore 2, .goto_w 1]
def b1625_1 : List Instr := [.iload 1, .iload 2, .idiv, .sipush 9, .if_icmp .le 2, .iload 2, .sipush 10, .imul, .istore 2, .goto 1]
def b1625_2 : List Instr := [.sipush 1, .istore 3, .goto_w 3]
def b1625_3 : List Instr := [.iload 2, .ifCond .le 4, .iload 3, .ifCond .eq 4, .aload 0, .sipush 48, .iload 1, .iload 2, .idiv, .sipush 10, .irem, .iadd, .invokeinterface 1624 2, .istore 3, .iload 2, .sipush 10, .idiv, .istore 2, .goto 3]
def b1625_4 : List Instr := [.iload 3, .jsr 2]
/-- TimberHouseModel.typeNumber(I)Z -/
def m1625 : pm_M := (fun j => [b1625_0, b1625_1, b1625_2, b1625_3, b1625_4].getD j [], fun _ => [], 25, 4)
def b1626_0 : List Instr := [.aload 0, .sipush 0, .putfield 25600, .aload 0, .getfield 25659, .sipush 0, .invokeinterface 2009 2, .lstore 1, .aload 0, .sipush 97, .lload 1, .sipush 100, .aload 0, .getfield 25659, .invokeinterface 1987 1, .invokeinterface 1627 5, .istore 3, .aload 0, .getfield 25675, .sipush 0, .invokeinterface 2141 2, .lstore 1, .iload 3, .aload 0, .sipush 98, .lload 1, .sipush 1, .aload 0, .getfield 25675, .invokeinterface 2115 1, .invokeinterface 1627 5, .iadd, .istore 3, .aload 0, .getfield 25635, .sipush 0, .invokeinterface 1815 2, .lstore 1, .iload 3, .aload 0, .sipush 99, .lload 1, .sipush 100, .aload 0, .getfield 25635, .invokeinterface 1796 1, .invokeinterface 1627 5, .iadd, .istore 3, .aload 0, .getfield 25627, .invokeinterface 1771 1, .lstore 1, .iload 3, .aload 0, .sipush 100, .lload 1, .sipush 100, .aload 0, .getfield 25627, .invokeinterface 1733 1, .invokeinterface 1627 5, .iadd, .istore 3, .aload 0, .getfield 25619, .sipush 0, .invokeinterface 1695 2, .i2l, .lstore 1, .iload 3, .aload 0, .sipush 101, .lload 1, .sipush 100, .aload 0, .getfield 25619, .invokeinterface 1668 1, .invokeinterface 1627 5, .iadd, .jsr 0]
/-- TimberHouseModel.facts()I -/
def m1626 : pm_M := (fun j => [b1626_0].getD j [], fun _ => [], 25, 4)
def b1627_0 : List Instr := [.iload 5, .ifCond .gt 1, .lload 2, .bipush (-1000000), .lcmp, .ifCond .lt 1, .lload 2, .bipush 1000000, .lcmp, .ifCond .le 4, .goto_w 1]
def b1627_1 : List Instr := [.aload 0, .getfield 25683, .iload 1, .invokeinterface 2191 2, .istore 6, .iload 6, .ifCond .eq 2, .aload 0, .getfield 25683, .invokeinterface 2179 1, .ifCond .le 2, .sipush 1, .goto 3]
def b1627_2 : List Instr := [.sipush 0, .goto_w 3]
def b1627_3 : List Instr := [.jsr 0]
def b1627_4 : List Instr := [.aload 0, .getfield 25683, .iload 1, .lload 2, .l2i, .iload 4, .invokeinterface 2185 4, .sipush 1, .jsr 0]
/-- TimberHouseModel.fact(IJII)I -/
def m1627 : pm_M := (fun j => [b1627_0, b1627_1, b1627_2, b1627_3, b1627_4].getD j [], fun _ => [], 25, 7)
def b1628_0 : List Instr := [.aload 0, .sipush 0, .putfield 25600, .aload 0, .getfield 25683, .iload 1, .iload 2, .invokeinterface 2209 3, .lstore 3, .aload 0, .getfield 25683, .invokeinterface 2179 1, .ifCond .gt 1, .lload 3, .bipush 1000000000, .lcmp, .ifCond .gt 1, .lload 3, .bipush (-1000000000), .lcmp, .ifCond .ge 2, .goto_w 1]
def b1628_1 : List Instr := [.sipush (-1), .jsr 0]
def b1628_2 : List Instr := [.aload 0, .getfield 25691, .iload 2, .invokeinterface 2267 2, .istore 5, .aload 0, .getfield 25691, .invokeinterface 2245 1, .ifCond .le 3, .sipush (-1), .jsr 0]
def b1628_3 : List Instr := [.aload 0, .getfield 25691, .iload 5, .sipush 0, .lload 3, .invokeinterface 2269 4, .istore 6, .aload 0, .getfield 25691, .iload 5, .sipush 1, .lload 3, .lneg, .invokeinterface 2269 4, .istore 6, .aload 0, .getfield 25691, .iload 5, .invokeinterface 2272 2, .istore 7, .aload 0, .getfield 25691, .invokeinterface 2245 1, .ifCond .gt 4, .iload 7, .ifCond .eq 4, .iload 6, .sipush 2, .if_icmp .ge 5, .goto_w 4]
def b1628_4 : List Instr := [.sipush (-1), .jsr 0]
def b1628_5 : List Instr := [.aload 0, .dup, .getfield 25712, .sipush 1, .iadd, .putfield 25712, .iload 7, .jsr 0]
/-- TimberHouseModel.book(II)I -/
def m1628 : pm_M := (fun j => [b1628_0, b1628_1, b1628_2, b1628_3, b1628_4, b1628_5].getD j [], fun _ => [], 25, 8)
def b1629_0 : List Instr := [.aload 0, .sipush 0, .putfield 25600, .aload 0, .invokeinterface 1618 1, .istore 2, .iload 2, .ifCond .ge 1, .sipush (-1), .jsr 0]
def b1629_1 : List Instr := [.sipush 0, .istore 3, .sipush 0, .istore 4, .goto_w 2]
def b1629_2 : List Instr := [.iload 4, .iload 2, .if_icmp .ge 3, .iload 3, .aload 0, .getfield 25659, .iload 4, .sipush 1, .invokeinterface 2003 3, .iadd, .istore 3, .iinc 4 1, .goto 2]
def b1629_3 : List Instr := [.aload 0, .getfield 25691, .sipush 5, .aload 0, .getfield 25720, .sipush 1, .iadd, .i2l, .sipush 9, .sipush 0, .iload 3, .i2l, .iload 1, .i2l, .invokeinterface 2241 7, .istore 4, .aload 0, .getfield 25691, .invokeinterface 2245 1, .ifCond .gt 4, .iload 4, .sipush 1, .if_icmp .eq 5, .goto_w 4]
def b1629_4 : List Instr := [.sipush (-1), .jsr 0]
def b1629_5 : List Instr := [.aload 0, .dup, .getfield 25720, .sipush 1, .iadd, .putfield 25720, .aload 0, .getfield 25720, .jsr 0]
/-- TimberHouseModel.stock(I)I -/
def m1629 : pm_M := (fun j => [b1629_0, b1629_1, b1629_2, b1629_3, b1629_4, b1629_5].getD j [], fun _ => [], 25, 5)
def b1630_0 : List Instr := [.aload 0, .sipush 0, .putfield 25600, .sipush 0, .istore 2, .sipush 0, .istore 3, .goto_w 1]
def b1630_1 : List Instr := [.iload 3, .sipush 10, .if_icmp .ge 2, .iload 2, .aload 0, .getfield 25611, .iload 3, .iaload, .iadd, .istore 2, .iinc 3 1, .goto 1]
def b1630_2 : List Instr := [.iload 1, .ifCond .ne 3, .iload 2, .goto 7]
def b1630_3 : List Instr := [.iload 1, .sipush 1, .if_icmp .ne 4, .aload 0, .getfield 25704, .goto 7]
def b1630_4 : List Instr := [.iload 1, .sipush 2, .if_icmp .ne 5, .aload 0, .getfield 25712, .goto 7]
def b1630_5 : List Instr := [.iload 1, .sipush 3, .if_icmp .ne 6, .aload 0, .getfield 25720, .goto 7]
def b1630_6 : List Instr := [.sipush (-1), .goto_w 7]
def b1630_7 : List Instr := [.jsr 0]
/-- TimberHouseModel.whole(I)I -/
def m1630 : pm_M := (fun j => [b1630_0, b1630_1, b1630_2, b1630_3, b1630_4, b1630_5, b1630_6, b1630_7].getD j [], fun _ => [], 25, 4)
def b1664_0 : List Instr := [.aload 0, .f2i, .aload 0, .sipush 800, .newarray .boolean, .putfield 26651, .aload 0, .sipush 400, .newarray .int, .putfield 26659, .aload 0, .sipush 8, .newarray .int, .putfield 26675, .aload 0, .sipush 8, .newarray .int, .putfield 26683, .aload 0, .sipush 8, .newarray .int, .putfield 26691, .aload 0, .sipush 8, .newarray .int, .putfield 26699, .aload 0, .sipush 441, .newarray .int, .putfield 26707, .aload 0, .sipush 441, .newarray .int, .putfield 26715, .aload 0, .sipush 9702, .newarray .int, .putfield 26723, .aload 0, .sipush 9702, .newarray .int, .putfield 26731, .aload 0, .sipush 21, .newarray .int, .putfield 26739, .aload 0, .sipush 21, .newarray .int, .putfield 26747, .aload 0, .sipush 2400, .newarray .int, .putfield 26795, .aload 0, .iload 1, .sipush 1, .if_icmp .ge 1, .sipush 1, .goto 3]
def b1664_1 : List Instr := [.iload 1, .sipush 20, .if_icmp .le 2, .sipush 20, .goto 3]
def b1664_2 : List Instr := [.iload 1, .goto_w 3]
def b1664_3 : List Instr := [.putfield 26632, .aload 0, .iload 2, .ifCond .ge 4, .sipush 0, .goto 6]
def b1664_4 : List Instr := [.iload 2, .sipush 4, .if_icmp .le 5, .sipush 4, .goto 6]
def b1664_5 : List Instr := [.iload 2, .goto_w 6]
def b1664_6 : List Instr := [.putfield 26640, .return_]
/-- TimberHouseModel$Saw.<init>(II)V -/
def m1664 : pm_M := (fun j => [b1664_0, b1664_1, b1664_2, b1664_3, b1664_4, b1664_5, b1664_6].getD j [], fun _ => [], 26, 3)
def b1665_0 : List Instr := [.aload 0, .iload 1, .sipush 0, .sipush 1, .invokeinterface 1666 3, .ifCond .eq 1, .aload 0, .iload 2, .iload 3, .invokeinterface 1667 3, .ifCond .eq 1, .sipush 0, .goto 2]
def b1665_1 : List Instr := [.sipush 1, .goto_w 2]
def b1665_2 : List Instr := [.putfield 26624, .aload 0, .getfield 26624, .ifCond .le 3, .sipush 0, .jsr 2]
def b1665_3 : List Instr := [.sipush 400, .iload 1, .imul, .sipush 20, .iload 3, .imul, .iadd, .iload 2, .iadd, .istore 5, .aload 0, .getfield 26651, .iload 5, .baload, .iload 4, .if_icmp .eq 4, .sipush 1, .goto 5]
def b1665_4 : List Instr := [.sipush 0, .goto_w 5]
def b1665_5 : List Instr := [.istore 6, .aload 0, .getfield 26651, .iload 5, .iload 4, .bastore, .aload 0, .aload 0, .getfield 26754, .ifCond .eq 6, .iload 6, .ifCond .ne 6, .sipush 1, .goto 7]
def b1665_6 : List Instr := [.sipush 0, .goto_w 7]
def b1665_7 : List Instr := [.putfield 26754, .iload 6, .jsr 2]
/-- TimberHouseModel$Saw.cell(IIIZ)Z -/
def m1665 : pm_M := (fun j => [b1665_0, b1665_1, b1665_2, b1665_3, b1665_4, b1665_5, b1665_6, b1665_7].getD j [], fun _ => [], 26, 7)
def b1666_0 : List Instr := [.iload 0, .iload 1, .if_icmp .lt 1, .iload 0, .iload 2, .if_icmp .gt 1, .sipush 1, .goto 2]
def b1666_1 : List Instr := [.sipush 0, .goto_w 2]
def b1666_2 : List Instr := [.jsr 2]
/-- TimberHouseModel$Saw.isIn(III)Z -/
def m1666 : pm_M := (fun j => [b1666_0, b1666_1, b1666_2].getD j [], fun _ => [], 0, 3)
def b1667_0 : List Instr := [.iload 1, .sipush 0, .aload 0, .getfield 26632, .sipush 1, .isub, .invokeinterface 1666 3, .ifCond .eq 1, .iload 2, .sipush 0, .aload 0, .getfield 26632, .sipush 1, .isub, .invokeinterface 1666 3, .ifCond .eq 1, .sipush 1, .goto 2]
def b1667_1 : List Instr := [.sipush 0, .goto_w 2]
def b1667_2 : List Instr := [.jsr 2]
/-- TimberHouseModel$Saw.isCell(II)Z -/
def m1667 : pm_M := (fun j => [b1667_0, b1667_1, b1667_2].getD j [], fun _ => [], 26, 3)
def b1668_0 : List Instr := [.aload 0, .getfield 26624, .jsr 0]
/-- TimberHouseModel$Saw.thrown()I -/
def m1668 : pm_M := (fun j => [b1668_0].getD j [], fun _ => [], 26, 1)
def b1669_0 : List Instr := [.aload 0, .iload 1, .sipush 0, .sipush 1, .invokeinterface 1666 3, .ifCond .eq 1, .iload 2, .sipush 0, .aload 0, .getfield 26632, .sipush 1, .isub, .invokeinterface 1666 3, .ifCond .ne 2, .goto_w 1]
def b1669_1 : List Instr := [.sipush 1, .goto 4]
def b1669_2 : List Instr := [.iload 3, .sipush 0, .aload 0, .getfield 26632, .invokeinterface 1666 3, .ifCond .eq 3, .iload 4, .iload 3, .aload 0, .getfield 26632, .invokeinterface 1666 3, .ifCond .eq 3, .sipush 0, .goto 4]
def b1669_3 : List Instr := [.sipush 2, .goto_w 4]
def b1669_4 : List Instr := [.putfield 26624, .iload 3, .istore 5, .goto_w 5]
def b1669_5 : List Instr := [.aload 0, .getfield 26624, .ifCond .ne 6, .iload 5, .iload 4, .if_icmp .ge 6, .aload 0, .getfield 26651, .sipush 400, .iload 1, .imul, .sipush 20, .iload 2, .imul, .iadd, .iload 5, .iadd, .sipush 1, .bastore, .iinc 5 1, .goto 5]
def b1669_6 : List Instr := [.aload 0, .aload 0, .getfield 26754, .ifCond .eq 7, .aload 0, .getfield 26624, .ifCond .le 7, .sipush 1, .goto 8]
def b1669_7 : List Instr := [.sipush 0, .goto_w 8]
def b1669_8 : List Instr := [.putfield 26754, .return_]
/-- TimberHouseModel$Saw.span(IIII)V -/
def m1669 : pm_M := (fun j => [b1669_0, b1669_1, b1669_2, b1669_3, b1669_4, b1669_5, b1669_6, b1669_7, b1669_8].getD j [], fun _ => [], 26, 6)
def b1670_0 : List Instr := [.aload 0, .aload 0, .iload 1, .iload 2, .invokeinterface 1667 3, .ifCond .ne 1, .sipush 1, .goto 3]
def b1670_1 : List Instr := [.iload 3, .sipush 0, .sipush 10000, .invokeinterface 1666 3, .ifCond .eq 2, .sipush 0, .goto 3]
def b1670_2 : List Instr := [.sipush 2, .goto_w 3]
def b1670_3 : List Instr := [.putfield 26624, .aload 0, .getfield 26624, .ifCond .le 4, .sipush 0, .jsr 2]
def b1670_4 : List Instr := [.aload 0, .getfield 26659, .sipush 20, .iload 2, .imul, .iload 1, .iadd, .iaload, .iload 3, .if_icmp .eq 5, .sipush 1, .goto 6]
def b1670_5 : List Instr := [.sipush 0, .goto_w 6]
def b1670_6 : List Instr := [.istore 4, .aload 0, .getfield 26659, .sipush 20, .iload 2, .imul, .iload 1, .iadd, .iload 3, .iastore, .aload 0, .aload 0, .getfield 26754, .ifCond .eq 7, .iload 4, .ifCond .ne 7, .sipush 1, .goto 8]
def b1670_7 : List Instr := [.sipush 0, .goto_w 8]
def b1670_8 : List Instr := [.putfield 26754, .iload 4, .jsr 2]
/-- TimberHouseModel$Saw.knot(III)Z -/
def m1670 : pm_M := (fun j => [b1670_0, b1670_1, b1670_2, b1670_3, b1670_4, b1670_5, b1670_6, b1670_7, b1670_8].getD j [], fun _ => [], 26, 5)
def b1671_0 : List Instr := [.iload 1, .sipush 1, .sipush 20, .invokeinterface 1666 3, .ifCond .eq 1, .iload 2, .sipush 1, .sipush 20, .invokeinterface 1666 3, .ifCond .eq 1, .iload 3, .sipush 0, .sipush 100000, .invokeinterface 1666 3, .ifCond .eq 1, .iload 4, .sipush 0, .sipush 400, .invokeinterface 1666 3, .ifCond .eq 1, .sipush 1, .goto 2]
def b1671_1 : List Instr := [.sipush 0, .goto_w 2]
def b1671_2 : List Instr := [.istore 5, .aload 0, .iload 5, .ifCond .ne 3, .sipush 1, .goto 5]
def b1671_3 : List Instr := [.aload 0, .getfield 26664, .sipush 8, .if_icmp .ne 4, .sipush 2, .goto 5]
def b1671_4 : List Instr := [.sipush 0, .goto_w 5]
def b1671_5 : List Instr := [.putfield 26624, .aload 0, .getfield 26624, .ifCond .le 6, .sipush 0, .jsr 0]
def b1671_6 : List Instr := [.aload 0, .getfield 26675, .aload 0, .getfield 26664, .iload 1, .iastore, .aload 0, .getfield 26683, .aload 0, .getfield 26664, .iload 2, .iastore, .aload 0, .getfield 26691, .aload 0, .getfield 26664, .iload 3, .iastore, .aload 0, .getfield 26699, .aload 0, .getfield 26664, .iload 4, .iastore, .aload 0, .dup, .getfield 26664, .sipush 1, .iadd, .putfield 26664, .aload 0, .sipush 0, .putfield 26754, .aload 0, .getfield 26664, .sipush 1, .isub, .jsr 0]
/-- TimberHouseModel$Saw.size(IIII)I -/
def m1671 : pm_M := (fun j => [b1671_0, b1671_1, b1671_2, b1671_3, b1671_4, b1671_5, b1671_6].getD j [], fun _ => [], 26, 6)
def b1672_0 : List Instr := [.aload 0, .sipush 0, .putfield 26624, .aload 0, .sipush 1, .invokeinterface 1673 2, .aload 0, .getfield 26739, .sipush 0, .iaload, .istore 1, .aload 0, .getfield 26747, .sipush 0, .iaload, .istore 2, .aload 0, .sipush 0, .invokeinterface 1673 2, .aload 0, .iload 1, .iload 2, .aload 0, .getfield 26739, .sipush 0, .iaload, .aload 0, .getfield 26747, .sipush 0, .iaload, .invokeinterface 1688 4, .ifCond .eq 1, .sipush 1, .goto 2]
def b1672_1 : List Instr := [.sipush 0, .goto_w 2]
def b1672_2 : List Instr := [.putfield 26760, .aload 0, .getfield 26760, .sipush 1, .if_icmp .ne 3, .aload 0, .sipush 1, .invokeinterface 1673 2, .goto_w 3]
def b1672_3 : List Instr := [.aload 0, .aload 0, .getfield 26739, .sipush 0, .iaload, .putfield 26768, .aload 0, .aload 0, .getfield 26760, .invokeinterface 1690 2, .aload 0, .sipush 1, .putfield 26754, .aload 0, .getfield 26784, .jsr 0]
/-- TimberHouseModel$Saw.run()I -/
def m1672 : pm_M := (fun j => [b1672_0, b1672_1, b1672_2, b1672_3].getD j [], fun _ => [], 26, 3)
def b1673_0 : List Instr := [.aload 0, .invokeinterface 1674 1, .aload 0, .getfield 26739, .aload 0, .getfield 26632, .sipush 0, .iastore, .aload 0, .getfield 26747, .aload 0, .getfield 26632, .sipush 0, .iastore, .aload 0, .getfield 26632, .sipush 1, .isub, .istore 2, .goto_w 1]
def b1673_1 : List Instr := [.iload 2, .ifCond .lt 10, .aload 0, .getfield 26739, .iload 2, .aload 0, .getfield 26739, .iload 2, .sipush 1, .iadd, .iaload, .iastore, .aload 0, .getfield 26747, .iload 2, .aload 0, .getfield 26747, .iload 2, .sipush 1, .iadd, .iaload, .iastore, .sipush 1, .istore 3, .goto_w 2]
def b1673_2 : List Instr := [.iload 3, .aload 0, .getfield 26632, .iload 2, .isub, .if_icmp .gt 9, .aload 0, .iload 3, .invokeinterface 1676 2, .ifCond .eq 3, .aload 0, .iload 1, .iload 2, .iload 3, .invokeinterface 1677 4, .goto_w 3]
def b1673_3 : List Instr := [.aload 0, .iload 2, .iload 3, .invokeinterface 1689 3, .ifCond .eq 8, .aload 0, .getfield 26723, .iload 2, .iload 3, .sipush 0, .invokeinterface 1678 3, .iaload, .aload 0, .getfield 26739, .aload 0, .iload 2, .iload 3, .invokeinterface 1686 3, .iaload, .iadd, .istore 4, .aload 0, .getfield 26731, .iload 2, .iload 3, .sipush 0, .invokeinterface 1678 3, .iaload, .aload 0, .getfield 26747, .aload 0, .iload 2, .iload 3, .invokeinterface 1686 3, .iaload, .iadd, .istore 5, .iload 4, .iload 5, .aload 0, .getfield 26739, .iload 2, .iaload, .aload 0, .getfield 26747, .iload 2, .iaload, .invokeinterface 1688 4, .istore 6, .aload 0, .getfield 26739, .iload 2, .iload 6, .ifCond .eq 4, .iload 4, .goto 5]
def b1673_4 : List Instr := [.aload 0, .getfield 26739, .iload 2, .iaload, .goto_w 5]
def b1673_5 : List Instr := [.iastore, .aload 0, .getfield 26747, .iload 2, .iload 6, .ifCond .eq 6, .iload 5, .goto 7]
def b1673_6 : List Instr := [.aload 0, .getfield 26747, .iload 2, .iaload, .goto_w 7]
def b1673_7 : List Instr := [.iastore, .goto_w 8]
def b1673_8 : List Instr := [.iinc 3 1, .goto 2]
def b1673_9 : List Instr := [.iinc 2 (-1), .goto 1]
def b1673_10 : List Instr := [.return_]
/-- TimberHouseModel$Saw.fill(I)V -/
def m1673 : pm_M := (fun j => [b1673_0, b1673_1, b1673_2, b1673_3, b1673_4, b1673_5, b1673_6, b1673_7, b1673_8, b1673_9, b1673_10].getD j [], fun _ => [], 26, 7)
def b1674_0 : List Instr := [.sipush 0, .istore 1, .goto_w 1]
def b1674_1 : List Instr := [.iload 1, .aload 0, .getfield 26632, .if_icmp .ge 6, .sipush 0, .istore 2, .goto_w 2]
def b1674_2 : List Instr := [.iload 2, .aload 0, .getfield 26632, .if_icmp .ge 5, .sipush 21, .iload 1, .sipush 1, .iadd, .imul, .iload 2, .iadd, .sipush 1, .iadd, .istore 3, .aload 0, .getfield 26707, .iload 3, .aload 0, .iload 2, .iload 1, .invokeinterface 1675 3, .ifCond .eq 3, .sipush 0, .goto 4]
def b1674_3 : List Instr := [.sipush 1, .goto_w 4]
def b1674_4 : List Instr := [.aload 0, .getfield 26707, .iload 3, .sipush 1, .isub, .iaload, .iadd, .aload 0, .getfield 26707, .iload 3, .sipush 21, .isub, .iaload, .iadd, .aload 0, .getfield 26707, .iload 3, .sipush 21, .isub, .sipush 1, .isub, .iaload, .isub, .iastore, .aload 0, .getfield 26715, .iload 3, .aload 0, .getfield 26659, .sipush 20, .iload 1, .imul, .iload 2, .iadd, .iaload, .aload 0, .getfield 26715, .iload 3, .sipush 1, .isub, .iaload, .iadd, .aload 0, .getfield 26715, .iload 3, .sipush 21, .isub, .iaload, .iadd, .aload 0, .getfield 26715, .iload 3, .sipush 21, .isub, .sipush 1, .isub, .iaload, .isub, .iastore, .iinc 2 1, .goto 2]
def b1674_5 : List Instr := [.iinc 1 1, .goto 1]
def b1674_6 : List Instr := [.return_]
/-- TimberHouseModel$Saw.sums()V -/
def m1674 : pm_M := (fun j => [b1674_0, b1674_1, b1674_2, b1674_3, b1674_4, b1674_5, b1674_6].getD j [], fun _ => [], 26, 4)
def b1675_0 : List Instr := [.aload 0, .getfield 26651, .sipush 20, .iload 2, .imul, .iload 1, .iadd, .baload, .ifCond .eq 1, .aload 0, .getfield 26651, .sipush 400, .sipush 20, .iload 2, .imul, .iadd, .iload 1, .iadd, .baload, .ifCond .eq 1, .sipush 1, .goto 2]
def b1675_1 : List Instr := [.sipush 0, .goto_w 2]
def b1675_2 : List Instr := [.jsr 2]
/-- TimberHouseModel$Saw.isWood(II)Z -/
def m1675 : pm_M := (fun j => [b1675_0, b1675_1, b1675_2].getD j [], fun _ => [], 26, 3)
def b1676_0 : List Instr := [.sipush 0, .istore 2, .sipush 0, .istore 3, .goto_w 1]
def b1676_1 : List Instr := [.iload 3, .aload 0, .getfield 26664, .if_icmp .ge 5, .iload 2, .ifCond .ne 2, .aload 0, .getfield 26675, .iload 3, .iaload, .iload 1, .if_icmp .ne 3, .goto_w 2]
def b1676_2 : List Instr := [.sipush 1, .goto 4]
def b1676_3 : List Instr := [.sipush 0, .goto_w 4]
def b1676_4 : List Instr := [.istore 2, .iinc 3 1, .goto 1]
def b1676_5 : List Instr := [.iload 2, .jsr 2]
/-- TimberHouseModel$Saw.isThick(I)Z -/
def m1676 : pm_M := (fun j => [b1676_0, b1676_1, b1676_2, b1676_3, b1676_4, b1676_5].getD j [], fun _ => [], 26, 4)
def b1677_0 : List Instr := [.aload 0, .getfield 26723, .iload 2, .iload 3, .aload 0, .getfield 26632, .invokeinterface 1678 3, .sipush 0, .iastore, .aload 0, .getfield 26731, .iload 2, .iload 3, .aload 0, .getfield 26632, .invokeinterface 1678 3, .sipush 0, .iastore, .aload 0, .getfield 26632, .sipush 1, .isub, .istore 4, .goto_w 1]
def b1677_1 : List Instr := [.iload 4, .ifCond .lt 9, .iload 2, .iload 3, .iload 4, .invokeinterface 1678 3, .istore 5, .aload 0, .getfield 26723, .iload 5, .aload 0, .getfield 26723, .iload 5, .sipush 1, .iadd, .iaload, .iastore, .aload 0, .getfield 26731, .iload 5, .aload 0, .getfield 26731, .iload 5, .sipush 1, .iadd, .iaload, .iastore, .sipush 0, .istore 6, .goto_w 2]
def b1677_2 : List Instr := [.iload 6, .aload 0, .getfield 26664, .if_icmp .ge 8, .aload 0, .iload 6, .iload 1, .iload 2, .iload 3, .iload 4, .invokeinterface 1679 6, .ifCond .eq 7, .aload 0, .iload 6, .iload 1, .iload 2, .iload 3, .iload 4, .invokeinterface 1684 6, .istore 7, .aload 0, .iload 6, .iload 2, .iload 3, .iload 4, .invokeinterface 1687 5, .istore 8, .iload 7, .iload 8, .aload 0, .getfield 26723, .iload 5, .iaload, .aload 0, .getfield 26731, .iload 5, .iaload, .invokeinterface 1688 4, .istore 9, .aload 0, .getfield 26723, .iload 5, .iload 9, .ifCond .eq 3, .iload 7, .goto 4]
def b1677_3 : List Instr := [.aload 0, .getfield 26723, .iload 5, .iaload, .goto_w 4]
def b1677_4 : List Instr := [.iastore, .aload 0, .getfield 26731, .iload 5, .iload 9, .ifCond .eq 5, .iload 8, .goto 6]
def b1677_5 : List Instr := [.aload 0, .getfield 26731, .iload 5, .iaload, .goto_w 6]
def b1677_6 : List Instr := [.iastore, .goto_w 7]
def b1677_7 : List Instr := [.iinc 6 1, .goto 2]
def b1677_8 : List Instr := [.iinc 4 (-1), .goto 1]
def b1677_9 : List Instr := [.return_]
/-- TimberHouseModel$Saw.slab(III)V -/
def m1677 : pm_M := (fun j => [b1677_0, b1677_1, b1677_2, b1677_3, b1677_4, b1677_5, b1677_6, b1677_7, b1677_8, b1677_9].getD j [], fun _ => [], 26, 10)
def b1678_0 : List Instr := [.sipush 21, .iload 0, .imul, .iload 1, .iadd, .sipush 22, .imul, .iload 2, .iadd, .jsr 0]
/-- TimberHouseModel$Saw.cell(III)I -/
def m1678 : pm_M := (fun j => [b1678_0].getD j [], fun _ => [], 0, 3)
def b1679_0 : List Instr := [.aload 0, .getfield 26675, .iload 1, .iaload, .iload 4, .if_icmp .ne 3, .iload 2, .ifCond .ne 1, .aload 0, .iload 1, .iload 5, .iload 3, .iload 2, .invokeinterface 1680 5, .ifCond .eq 3, .goto 2]
def b1679_1 : List Instr := [.aload 0, .iload 1, .iload 3, .iload 5, .iload 2, .invokeinterface 1680 5, .ifCond .eq 3, .goto_w 2]
def b1679_2 : List Instr := [.sipush 1, .goto 4]
def b1679_3 : List Instr := [.sipush 0, .goto_w 4]
def b1679_4 : List Instr := [.jsr 2]
/-- TimberHouseModel$Saw.mayIn(IIIII)Z -/
def m1679 : pm_M := (fun j => [b1679_0, b1679_1, b1679_2, b1679_3, b1679_4].getD j [], fun _ => [], 26, 6)
def b1680_0 : List Instr := [.aload 0, .iload 1, .iload 4, .invokeinterface 1681 3, .istore 5, .aload 0, .iload 1, .iload 4, .invokeinterface 1682 3, .istore 6, .iload 2, .ifCond .lt 1, .iload 3, .ifCond .lt 1, .iload 2, .aload 0, .getfield 26632, .iload 5, .isub, .if_icmp .gt 1, .iload 3, .aload 0, .getfield 26632, .iload 6, .isub, .if_icmp .gt 1, .aload 0, .sipush 0, .iload 2, .iload 3, .iload 5, .iload 6, .invokeinterface 1683 6, .aload 0, .getfield 26699, .iload 1, .iaload, .if_icmp .gt 1, .sipush 1, .goto 2]
def b1680_1 : List Instr := [.sipush 0, .goto_w 2]
def b1680_2 : List Instr := [.jsr 2]
/-- TimberHouseModel$Saw.fits(IIII)Z -/
def m1680 : pm_M := (fun j => [b1680_0, b1680_1, b1680_2].getD j [], fun _ => [], 26, 7)
def b1681_0 : List Instr := [.iload 2, .ifCond .ne 1, .aload 0, .getfield 26683, .iload 1, .iaload, .goto 2]
def b1681_1 : List Instr := [.aload 0, .getfield 26675, .iload 1, .iaload, .goto_w 2]
def b1681_2 : List Instr := [.jsr 0]
/-- TimberHouseModel$Saw.alongX(II)I -/
def m1681 : pm_M := (fun j => [b1681_0, b1681_1, b1681_2].getD j [], fun _ => [], 26, 3)
def b1682_0 : List Instr := [.iload 2, .ifCond .ne 1, .aload 0, .getfield 26675, .iload 1, .iaload, .goto 2]
def b1682_1 : List Instr := [.aload 0, .getfield 26683, .iload 1, .iaload, .goto_w 2]
def b1682_2 : List Instr := [.jsr 0]
/-- TimberHouseModel$Saw.alongY(II)I -/
def m1682 : pm_M := (fun j => [b1682_0, b1682_1, b1682_2].getD j [], fun _ => [], 26, 3)
def b1683_0 : List Instr := [.sipush 21, .iload 3, .imul, .iload 2, .iadd, .istore 6, .sipush 21, .iload 3, .iload 5, .iadd, .imul, .iload 2, .iadd, .istore 7, .iload 1, .ifCond .eq 1, .aload 0, .getfield 26715, .iload 7, .iload 4, .iadd, .iaload, .aload 0, .getfield 26715, .iload 7, .iaload, .isub, .aload 0, .getfield 26715, .iload 6, .iload 4, .iadd, .iaload, .isub, .aload 0, .getfield 26715, .iload 6, .iaload, .iadd, .goto 2]
def b1683_1 : List Instr := [.aload 0, .getfield 26707, .iload 7, .iload 4, .iadd, .iaload, .aload 0, .getfield 26707, .iload 7, .iaload, .isub, .aload 0, .getfield 26707, .iload 6, .iload 4, .iadd, .iaload, .isub, .aload 0, .getfield 26707, .iload 6, .iaload, .iadd, .goto_w 2]
def b1683_2 : List Instr := [.jsr 0]
/-- TimberHouseModel$Saw.over(ZIIII)I -/
def m1683 : pm_M := (fun j => [b1683_0, b1683_1, b1683_2].getD j [], fun _ => [], 26, 8)
def b1684_0 : List Instr := [.iload 2, .ifCond .ne 1, .aload 0, .iload 1, .iload 5, .iload 3, .iload 2, .invokeinterface 1685 5, .goto 2]
def b1684_1 : List Instr := [.aload 0, .iload 1, .iload 3, .iload 5, .iload 2, .invokeinterface 1685 5, .goto_w 2]
def b1684_2 : List Instr := [.istore 6, .iload 6, .aload 0, .getfield 26723, .iload 3, .iload 4, .aload 0, .iload 5, .aload 0, .getfield 26683, .iload 1, .iaload, .invokeinterface 1686 3, .invokeinterface 1678 3, .iaload, .iadd, .jsr 0]
/-- TimberHouseModel$Saw.worthWith(IIIII)I -/
def m1684 : pm_M := (fun j => [b1684_0, b1684_1, b1684_2].getD j [], fun _ => [], 26, 7)
def b1685_0 : List Instr := [.aload 0, .getfield 26691, .iload 1, .iaload, .aload 0, .sipush 1, .iload 2, .iload 3, .aload 0, .iload 1, .iload 4, .invokeinterface 1681 3, .aload 0, .iload 1, .iload 4, .invokeinterface 1682 3, .invokeinterface 1683 6, .isub, .istore 5, .iload 5, .ifCond .ge 1, .sipush 0, .goto 2]
def b1685_1 : List Instr := [.iload 5, .goto_w 2]
def b1685_2 : List Instr := [.jsr 0]
/-- TimberHouseModel$Saw.brings(IIII)I -/
def m1685 : pm_M := (fun j => [b1685_0, b1685_1, b1685_2].getD j [], fun _ => [], 26, 6)
def b1686_0 : List Instr := [.iload 1, .iload 2, .iadd, .aload 0, .getfield 26640, .iadd, .istore 3, .iload 3, .aload 0, .getfield 26632, .if_icmp .le 1, .aload 0, .getfield 26632, .goto 2]
def b1686_1 : List Instr := [.iload 3, .goto_w 2]
def b1686_2 : List Instr := [.jsr 0]
/-- TimberHouseModel$Saw.behind(II)I -/
def m1686 : pm_M := (fun j => [b1686_0, b1686_1, b1686_2].getD j [], fun _ => [], 26, 4)
def b1687_0 : List Instr := [.sipush 1, .aload 0, .getfield 26731, .iload 2, .iload 3, .aload 0, .iload 4, .aload 0, .getfield 26683, .iload 1, .iaload, .invokeinterface 1686 3, .invokeinterface 1678 3, .iaload, .iadd, .jsr 0]
/-- TimberHouseModel$Saw.countWith(IIII)I -/
def m1687 : pm_M := (fun j => [b1687_0].getD j [], fun _ => [], 26, 5)
def b1688_0 : List Instr := [.iload 0, .iload 2, .if_icmp .gt 1, .iload 0, .iload 2, .if_icmp .ne 2, .iload 1, .iload 3, .if_icmp .ge 2, .goto_w 1]
def b1688_1 : List Instr := [.sipush 1, .goto 3]
def b1688_2 : List Instr := [.sipush 0, .goto_w 3]
def b1688_3 : List Instr := [.jsr 2]
/-- TimberHouseModel$Saw.isBetter(IIII)Z -/
def m1688 : pm_M := (fun j => [b1688_0, b1688_1, b1688_2, b1688_3].getD j [], fun _ => [], 0, 4)
def b1689_0 : List Instr := [.iload 1, .iload 2, .iadd, .aload 0, .getfield 26632, .if_icmp .gt 1, .aload 0, .iload 2, .invokeinterface 1676 2, .ifCond .eq 1, .aload 0, .getfield 26731, .iload 1, .iload 2, .sipush 0, .invokeinterface 1678 3, .iaload, .ifCond .le 1, .sipush 1, .goto 2]
def b1689_1 : List Instr := [.sipush 0, .goto_w 2]
def b1689_2 : List Instr := [.jsr 2]
/-- TimberHouseModel$Saw.hasSlab(II)Z -/
def m1689 : pm_M := (fun j => [b1689_0, b1689_1, b1689_2].getD j [], fun _ => [], 26, 3)
def b1690_0 : List Instr := [.aload 0, .sipush 0, .putfield 26784, .aload 0, .sipush 0, .putfield 26776, .sipush 0, .istore 2, .goto_w 1]
def b1690_1 : List Instr := [.iload 2, .aload 0, .getfield 26632, .if_icmp .ge 7, .sipush 1, .istore 3, .goto_w 2]
def b1690_2 : List Instr := [.iload 3, .aload 0, .getfield 26632, .iload 2, .isub, .if_icmp .gt 4, .aload 0, .iload 2, .iload 3, .invokeinterface 1689 3, .ifCond .eq 3, .aload 0, .getfield 26723, .iload 2, .iload 3, .sipush 0, .invokeinterface 1678 3, .iaload, .aload 0, .getfield 26739, .aload 0, .iload 2, .iload 3, .invokeinterface 1686 3, .iaload, .iadd, .aload 0, .getfield 26739, .iload 2, .iaload, .if_icmp .ne 3, .aload 0, .getfield 26731, .iload 2, .iload 3, .sipush 0, .invokeinterface 1678 3, .iaload, .aload 0, .getfield 26747, .aload 0, .iload 2, .iload 3, .invokeinterface 1686 3, .iaload, .iadd, .aload 0, .getfield 26747, .iload 2, .iaload, .if_icmp .eq 4, .goto_w 3]
def b1690_3 : List Instr := [.iinc 3 1, .goto 2]
def b1690_4 : List Instr := [.iload 3, .aload 0, .getfield 26632, .iload 2, .isub, .if_icmp .gt 5, .aload 0, .iload 1, .iload 2, .iload 3, .invokeinterface 1691 4, .aload 0, .dup, .getfield 26776, .sipush 1, .iadd, .putfield 26776, .aload 0, .iload 2, .iload 3, .invokeinterface 1686 3, .istore 2, .goto 6]
def b1690_5 : List Instr := [.iinc 2 1, .goto_w 6]
def b1690_6 : List Instr := [.goto 1]
def b1690_7 : List Instr := [.return_]
/-- TimberHouseModel$Saw.walk(I)V -/
def m1690 : pm_M := (fun j => [b1690_0, b1690_1, b1690_2, b1690_3, b1690_4, b1690_5, b1690_6, b1690_7].getD j [], fun _ => [], 26, 4)
def b1691_0 : List Instr := [.sipush 0, .istore 4, .goto_w 1]
def b1691_1 : List Instr := [.iload 4, .aload 0, .getfield 26632, .if_icmp .ge 7, .iload 2, .iload 3, .iload 4, .invokeinterface 1678 3, .istore 5, .sipush 0, .istore 6, .goto_w 2]
def b1691_2 : List Instr := [.iload 6, .aload 0, .getfield 26664, .if_icmp .ge 4, .aload 0, .iload 6, .iload 1, .iload 2, .iload 3, .iload 4, .invokeinterface 1679 6, .ifCond .eq 3, .aload 0, .iload 6, .iload 1, .iload 2, .iload 3, .iload 4, .invokeinterface 1684 6, .aload 0, .getfield 26723, .iload 5, .iaload, .if_icmp .ne 3, .aload 0, .iload 6, .iload 2, .iload 3, .iload 4, .invokeinterface 1687 5, .aload 0, .getfield 26731, .iload 5, .iaload, .if_icmp .eq 4, .goto_w 3]
def b1691_3 : List Instr := [.iinc 6 1, .goto 2]
def b1691_4 : List Instr := [.iload 6, .aload 0, .getfield 26664, .if_icmp .ge 5, .aload 0, .iload 6, .iload 1, .iload 2, .iload 4, .invokeinterface 1692 5, .aload 0, .iload 4, .aload 0, .getfield 26683, .iload 6, .iaload, .invokeinterface 1686 3, .istore 4, .goto 6]
def b1691_5 : List Instr := [.iinc 4 1, .goto_w 6]
def b1691_6 : List Instr := [.goto 1]
def b1691_7 : List Instr := [.return_]
/-- TimberHouseModel$Saw.walkSlab(III)V -/
def m1691 : pm_M := (fun j => [b1691_0, b1691_1, b1691_2, b1691_3, b1691_4, b1691_5, b1691_6, b1691_7].getD j [], fun _ => [], 26, 7)
def b1692_0 : List Instr := [.iload 2, .ifCond .ne 1, .iload 4, .goto 2]
def b1692_1 : List Instr := [.iload 3, .goto_w 2]
def b1692_2 : List Instr := [.istore 5, .iload 2, .ifCond .ne 3, .iload 3, .goto 4]
def b1692_3 : List Instr := [.iload 4, .goto_w 4]
def b1692_4 : List Instr := [.istore 6, .sipush 6, .aload 0, .getfield 26784, .imul, .istore 7, .aload 0, .getfield 26795, .iload 7, .iload 1, .iastore, .aload 0, .getfield 26795, .iload 7, .sipush 1, .iadd, .iload 5, .iastore, .aload 0, .getfield 26795, .iload 7, .sipush 2, .iadd, .iload 6, .iastore, .aload 0, .getfield 26795, .iload 7, .sipush 3, .iadd, .aload 0, .iload 1, .iload 2, .invokeinterface 1681 3, .iastore, .aload 0, .getfield 26795, .iload 7, .sipush 4, .iadd, .aload 0, .iload 1, .iload 2, .invokeinterface 1682 3, .iastore, .aload 0, .getfield 26795, .iload 7, .sipush 5, .iadd, .aload 0, .iload 1, .iload 5, .iload 6, .iload 2, .invokeinterface 1685 5, .iastore, .aload 0, .dup, .getfield 26784, .sipush 1, .iadd, .putfield 26784, .return_]
/-- TimberHouseModel$Saw.add(IIII)V -/
def m1692 : pm_M := (fun j => [b1692_0, b1692_1, b1692_2, b1692_3, b1692_4].getD j [], fun _ => [], 26, 8)
def b1693_0 : List Instr := [.aload 0, .aload 0, .getfield 26754, .ifCond .ne 1, .sipush 1, .goto 3]
def b1693_1 : List Instr := [.iload 1, .sipush 0, .aload 0, .getfield 26784, .sipush 1, .isub, .invokeinterface 1666 3, .ifCond .eq 2, .iload 2, .sipush 0, .sipush 6, .invokeinterface 1666 3, .ifCond .eq 2, .sipush 0, .goto 3]
def b1693_2 : List Instr := [.sipush 2, .goto_w 3]
def b1693_3 : List Instr := [.putfield 26624, .aload 0, .getfield 26624, .ifCond .le 4, .sipush 0, .goto 6]
def b1693_4 : List Instr := [.iload 2, .sipush 6, .if_icmp .ge 5, .aload 0, .getfield 26795, .sipush 6, .iload 1, .imul, .iload 2, .iadd, .iaload, .goto 6]
def b1693_5 : List Instr := [.aload 0, .iload 1, .invokeinterface 1694 2, .goto_w 6]
def b1693_6 : List Instr := [.jsr 0]
/-- TimberHouseModel$Saw.board(II)I -/
def m1693 : pm_M := (fun j => [b1693_0, b1693_1, b1693_2, b1693_3, b1693_4, b1693_5, b1693_6].getD j [], fun _ => [], 26, 3)
def b1694_0 : List Instr := [.aload 0, .sipush 0, .aload 0, .getfield 26795, .sipush 6, .iload 1, .imul, .sipush 1, .iadd, .iaload, .aload 0, .getfield 26795, .sipush 6, .iload 1, .imul, .sipush 2, .iadd, .iaload, .aload 0, .getfield 26795, .sipush 6, .iload 1, .imul, .sipush 3, .iadd, .iaload, .aload 0, .getfield 26795, .sipush 6, .iload 1, .imul, .sipush 4, .iadd, .iaload, .invokeinterface 1683 6, .jsr 0]
/-- TimberHouseModel$Saw.bareOf(I)I -/
def m1694 : pm_M := (fun j => [b1694_0].getD j [], fun _ => [], 26, 2)
def b1695_0 : List Instr := [.aload 0, .aload 0, .getfield 26754, .ifCond .ne 1, .sipush 1, .goto 3]
def b1695_1 : List Instr := [.iload 1, .sipush 0, .sipush 3, .invokeinterface 1666 3, .ifCond .eq 2, .sipush 0, .goto 3]
def b1695_2 : List Instr := [.sipush 2, .goto_w 3]
def b1695_3 : List Instr := [.putfield 26624, .aload 0, .getfield 26624, .ifCond .le 4, .sipush 0, .jsr 0]
def b1695_4 : List Instr := [.iload 1, .ifCond .ne 5, .aload 0, .getfield 26768, .goto 8]
def b1695_5 : List Instr := [.iload 1, .sipush 1, .if_icmp .ne 6, .aload 0, .getfield 26760, .goto 8]
def b1695_6 : List Instr := [.iload 1, .sipush 2, .if_icmp .ne 7, .aload 0, .getfield 26776, .goto 8]
def b1695_7 : List Instr := [.aload 0, .getfield 26784, .goto_w 8]
def b1695_8 : List Instr := [.jsr 0]
/-- TimberHouseModel$Saw.all(I)I -/
def m1695 : pm_M := (fun j => [b1695_0, b1695_1, b1695_2, b1695_3, b1695_4, b1695_5, b1695_6, b1695_7, b1695_8].getD j [], fun _ => [], 26, 2)
def b1696_0 : List Instr := [.aload 0, .iload 1, .sipush 0, .sipush 1, .invokeinterface 1666 3, .ifCond .eq 1, .sipush 0, .goto 2]
def b1696_1 : List Instr := [.sipush 1, .goto_w 2]
def b1696_2 : List Instr := [.putfield 26624, .aload 0, .getfield 26624, .ifCond .le 3, .sipush 0, .jsr 0]
def b1696_3 : List Instr := [.aload 0, .iload 1, .invokeinterface 1673 2, .aload 0, .getfield 26739, .sipush 0, .iaload, .jsr 0]
/-- TimberHouseModel$Saw.worth(I)I -/
def m1696 : pm_M := (fun j => [b1696_0, b1696_1, b1696_2, b1696_3].getD j [], fun _ => [], 26, 2)
def b1697_0 : List Instr := [.aload 0, .aload 0, .getfield 26754, .ifCond .ne 1, .sipush 1, .goto 3]
def b1697_1 : List Instr := [.iload 1, .sipush 0, .sipush 1, .invokeinterface 1666 3, .ifCond .eq 2, .sipush 0, .goto 3]
def b1697_2 : List Instr := [.sipush 2, .goto_w 3]
def b1697_3 : List Instr := [.putfield 26624, .aload 0, .getfield 26624, .ifCond .le 4, .sipush 0, .jsr 0]
def b1697_4 : List Instr := [.aload 0, .invokeinterface 1698 1, .istore 2, .sipush 0, .istore 3, .sipush 0, .istore 4, .goto_w 5]
def b1697_5 : List Instr := [.iload 4, .aload 0, .getfield 26784, .if_icmp .ge 6, .iload 3, .aload 0, .getfield 26795, .sipush 6, .iload 4, .imul, .sipush 3, .iadd, .iaload, .aload 0, .getfield 26795, .sipush 6, .iload 4, .imul, .sipush 4, .iadd, .iaload, .imul, .iadd, .istore 3, .iinc 4 1, .goto 5]
def b1697_6 : List Instr := [.iload 2, .ifCond .ne 7, .iload 1, .jsr 0]
def b1697_7 : List Instr := [.iload 3, .istore 4, .iload 2, .istore 5, .goto_w 8]
def b1697_8 : List Instr := [.iload 5, .ifCond .eq 9, .iload 4, .iload 5, .irem, .istore 6, .iload 5, .istore 4, .iload 6, .istore 5, .goto 8]
def b1697_9 : List Instr := [.iload 1, .ifCond .ne 10, .iload 3, .iload 4, .idiv, .goto 11]
def b1697_10 : List Instr := [.iload 2, .iload 4, .idiv, .goto_w 11]
def b1697_11 : List Instr := [.jsr 0]
/-- TimberHouseModel$Saw.yields(I)I -/
def m1697 : pm_M := (fun j => [b1697_0, b1697_1, b1697_2, b1697_3, b1697_4, b1697_5, b1697_6, b1697_7, b1697_8, b1697_9, b1697_10, b1697_11].getD j [], fun _ => [], 26, 7)
def b1698_0 : List Instr := [.sipush 0, .istore 1, .sipush 0, .istore 2, .goto_w 1]
def b1698_1 : List Instr := [.iload 2, .aload 0, .getfield 26632, .if_icmp .ge 6, .sipush 0, .istore 3, .goto_w 2]
def b1698_2 : List Instr := [.iload 3, .aload 0, .getfield 26632, .if_icmp .ge 5, .aload 0, .iload 3, .iload 2, .invokeinterface 1675 3, .ifCond .eq 3, .iload 1, .sipush 1, .iadd, .goto 4]
def b1698_3 : List Instr := [.iload 1, .goto_w 4]
def b1698_4 : List Instr := [.istore 1, .iinc 3 1, .goto 2]
def b1698_5 : List Instr := [.iinc 2 1, .goto 1]
def b1698_6 : List Instr := [.iload 1, .jsr 0]
/-- TimberHouseModel$Saw.woodCells()I -/
def m1698 : pm_M := (fun j => [b1698_0, b1698_1, b1698_2, b1698_3, b1698_4, b1698_5, b1698_6].getD j [], fun _ => [], 26, 4)
def b1699_0 : List Instr := [.aload 0, .iload 1, .sipush 0, .aload 0, .getfield 26664, .sipush 1, .isub, .invokeinterface 1666 3, .ifCond .eq 1, .iload 4, .sipush 0, .sipush 1, .invokeinterface 1666 3, .ifCond .eq 1, .sipush 0, .goto 2]
def b1699_1 : List Instr := [.sipush 1, .goto_w 2]
def b1699_2 : List Instr := [.putfield 26624, .aload 0, .getfield 26624, .ifCond .le 3, .sipush 0, .jsr 2]
def b1699_3 : List Instr := [.aload 0, .invokeinterface 1674 1, .aload 0, .iload 1, .iload 2, .iload 3, .iload 4, .invokeinterface 1680 5, .jsr 2]
/-- TimberHouseModel$Saw.may(IIII)Z -/
def m1699 : pm_M := (fun j => [b1699_0, b1699_1, b1699_2, b1699_3].getD j [], fun _ => [], 26, 5)
def b1700_0 : List Instr := [.aload 0, .aload 0, .getfield 26754, .ifCond .ne 1, .sipush 1, .goto 3]
def b1700_1 : List Instr := [.iload 1, .sipush 0, .aload 0, .getfield 26784, .sipush 1, .isub, .invokeinterface 1666 3, .ifCond .eq 2, .iload 2, .sipush 0, .aload 0, .getfield 26784, .sipush 1, .isub, .invokeinterface 1666 3, .ifCond .eq 2, .sipush 0, .goto 3]
def b1700_2 : List Instr := [.sipush 2, .goto_w 3]
def b1700_3 : List Instr := [.putfield 26624, .aload 0, .getfield 26624, .ifCond .ne 5, .aload 0, .iload 1, .iload 2, .sipush 0, .invokeinterface 1701 4, .ifCond .ne 4, .aload 0, .iload 1, .iload 2, .sipush 1, .invokeinterface 1701 4, .ifCond .eq 5, .goto_w 4]
def b1700_4 : List Instr := [.sipush 1, .goto 6]
def b1700_5 : List Instr := [.sipush 0, .goto_w 6]
def b1700_6 : List Instr := [.jsr 2]
/-- TimberHouseModel$Saw.apart(II)Z -/
def m1700 : pm_M := (fun j => [b1700_0, b1700_1, b1700_2, b1700_3, b1700_4, b1700_5, b1700_6].getD j [], fun _ => [], 26, 3)
def b1701_0 : List Instr := [.aload 0, .getfield 26795, .sipush 6, .iload 1, .imul, .sipush 1, .iadd, .iload 3, .iadd, .iaload, .istore 4, .aload 0, .getfield 26795, .sipush 6, .iload 2, .imul, .sipush 1, .iadd, .iload 3, .iadd, .iaload, .istore 5, .iload 4, .aload 0, .getfield 26795, .sipush 6, .iload 1, .imul, .sipush 3, .iadd, .iload 3, .iadd, .iaload, .iadd, .aload 0, .getfield 26640, .iadd, .iload 5, .if_icmp .le 1, .iload 5, .aload 0, .getfield 26795, .sipush 6, .iload 2, .imul, .sipush 3, .iadd, .iload 3, .iadd, .iaload, .iadd, .aload 0, .getfield 26640, .iadd, .iload 4, .if_icmp .gt 2, .goto_w 1]
def b1701_1 : List Instr := [.sipush 1, .goto 3]
def b1701_2 : List Instr := [.sipush 0, .goto_w 3]
def b1701_3 : List Instr := [.jsr 2]
/-- TimberHouseModel$Saw.isApart(III)Z -/
def m1701 : pm_M := (fun j => [b1701_0, b1701_1, b1701_2, b1701_3].getD j [], fun _ => [], 26, 6)
def b1702_0 : List Instr := [.aload 0, .sipush 0, .putfield 26624, .aload 0, .invokeinterface 1698 1, .jsr 0]
/-- TimberHouseModel$Saw.wood()I -/
def m1702 : pm_M := (fun j => [b1702_0].getD j [], fun _ => [], 26, 1)
def b1728_0 : List Instr := [.aload 0, .f2i, .aload 0, .sipush 20, .newarray .int, .putfield 27691, .aload 0, .sipush 20, .newarray .int, .putfield 27699, .aload 0, .sipush 20, .newarray .int, .putfield 27707, .aload 0, .sipush 20, .newarray .int, .putfield 27715, .aload 0, .sipush 20, .newarray .int, .putfield 27723, .aload 0, .sipush 20, .newarray .int, .putfield 27731, .aload 0, .sipush 8, .newarray .int, .putfield 27747, .aload 0, .sipush 8, .newarray .int, .putfield 27755, .aload 0, .sipush 8, .newarray .int, .putfield 27763, .aload 0, .sipush 8, .newarray .long, .putfield 27771, .aload 0, .sipush 128, .newarray .boolean, .putfield 27779, .aload 0, .sipush 8, .newarray .int, .putfield 27787, .aload 0, .sipush 8, .newarray .long, .putfield 27795, .aload 0, .sipush 8, .newarray .long, .putfield 27803, .aload 0, .sipush 65537, .newarray .boolean, .putfield 27811, .aload 0, .sipush 16777216, .putfield 27832, .aload 0, .sipush 75625, .newarray .long, .putfield 27843, .aload 0, .sipush 75625, .newarray .int, .putfield 27851, .aload 0, .sipush 75625, .newarray .int, .putfield 27859, .aload 0, .sipush 75625, .newarray .long, .putfield 27867, .aload 0, .sipush 75625, .newarray .int, .putfield 27875, .aload 0, .sipush 75625, .newarray .long, .putfield 27883, .aload 0, .sipush 75625, .newarray .int, .putfield 27891, .aload 0, .sipush 128, .newarray .long, .putfield 27899, .aload 0, .sipush 128, .newarray .int, .putfield 27907, .aload 0, .sipush 2, .putfield 27928, .aload 0, .sipush 240, .newarray .int, .putfield 27947, .aload 0, .sipush 240, .newarray .int, .putfield 27955, .aload 0, .sipush 240, .newarray .int, .putfield 27963, .aload 0, .sipush 240, .newarray .int, .putfield 27971, .aload 0, .sipush 240, .newarray .int, .putfield 27979, .aload 0, .sipush 1200, .newarray .int, .putfield 27995, .aload 0, .sipush 240, .newarray .boolean, .putfield 28011, .aload 0, .sipush 24341, .newarray .int, .putfield 28019, .aload 0, .iload 3, .invokeinterface 1729 1, .putfield 27656, .iload 2, .invokeinterface 1729 1, .aload 0, .getfield 27656, .idiv, .istore 4, .iload 1, .invokeinterface 1729 1, .aload 0, .getfield 27656, .idiv, .istore 5, .aload 0, .iload 4, .sipush 24, .if_icmp .le 1, .sipush 24, .goto 2]
def b1728_1 : List Instr := [.iload 4, .goto_w 2]
def b1728_2 : List Instr := [.putfield 27664, .aload 0, .iload 5, .sipush 10, .if_icmp .le 3, .sipush 10, .goto 4]
def b1728_3 : List Instr := [.iload 5, .goto_w 4]
def b1728_4 : List Instr := [.putfield 27672, .sipush 0, .istore 6, .goto_w 5]
def b1728_5 : List Instr := [.iload 6, .sipush 8, .if_icmp .ge 6, .aload 0, .getfield 27787, .iload 6, .sipush (-1), .iastore, .iinc 6 1, .goto 5]
def b1728_6 : List Instr := [.return_]
/-- TimberHouseModel$Rips.<init>(III)V -/
def m1728 : pm_M := (fun j => [b1728_0, b1728_1, b1728_2, b1728_3, b1728_4, b1728_5, b1728_6].getD j [], fun _ => [], 27, 7)
def b1729_0 : List Instr := [.iload 0, .sipush 1, .if_icmp .ge 1, .sipush 1, .goto 3]
def b1729_1 : List Instr := [.iload 0, .sipush 65536, .if_icmp .le 2, .sipush 65536, .goto 3]
def b1729_2 : List Instr := [.iload 0, .goto_w 3]
def b1729_3 : List Instr := [.jsr 0]
/-- TimberHouseModel$Rips.nearest(I)I -/
def m1729 : pm_M := (fun j => [b1729_0, b1729_1, b1729_2, b1729_3].getD j [], fun _ => [], 0, 1)
def b1730_0 : List Instr := [.iload 2, .i2l, .bipush 0, .bipush 7, .invokeinterface 1731 3, .ifCond .eq 1, .iload 3, .i2l, .bipush (-65536), .bipush 65536, .invokeinterface 1731 3, .ifCond .eq 1, .iload 4, .i2l, .bipush (-65536), .bipush 65536, .invokeinterface 1731 3, .ifCond .eq 1, .iload 5, .i2l, .bipush 0, .bipush 65536, .invokeinterface 1731 3, .ifCond .eq 1, .iload 6, .i2l, .bipush 0, .bipush 65536, .invokeinterface 1731 3, .ifCond .eq 1, .sipush 1, .goto 2]
def b1730_1 : List Instr := [.sipush 0, .goto_w 2]
def b1730_2 : List Instr := [.istore 7, .aload 0, .iload 1, .ifCond .lt 3, .iload 1, .sipush 1, .if_icmp .le 4, .goto_w 3]
def b1730_3 : List Instr := [.sipush 1, .goto 7]
def b1730_4 : List Instr := [.aload 0, .getfield 27680, .sipush 20, .if_icmp .ne 5, .sipush 2, .goto 7]
def b1730_5 : List Instr := [.iload 7, .ifCond .eq 6, .sipush 0, .goto 7]
def b1730_6 : List Instr := [.sipush 3, .goto_w 7]
def b1730_7 : List Instr := [.putfield 27648, .aload 0, .getfield 27648, .ifCond .gt 8, .iload 5, .ifCond .eq 8, .iload 6, .ifCond .ne 9, .goto_w 8]
def b1730_8 : List Instr := [.sipush 0, .jsr 2]
def b1730_9 : List Instr := [.aload 0, .getfield 27691, .aload 0, .getfield 27680, .iload 1, .iastore, .aload 0, .getfield 27699, .aload 0, .getfield 27680, .iload 2, .iastore, .aload 0, .getfield 27707, .aload 0, .getfield 27680, .iload 3, .iastore, .aload 0, .getfield 27715, .aload 0, .getfield 27680, .iload 4, .iastore, .aload 0, .getfield 27723, .aload 0, .getfield 27680, .iload 5, .iastore, .aload 0, .getfield 27731, .aload 0, .getfield 27680, .iload 6, .iastore, .aload 0, .dup, .getfield 27680, .sipush 1, .iadd, .putfield 27680, .aload 0, .sipush 1, .invokeinterface 1732 2, .jsr 2]
/-- TimberHouseModel$Rips.fault(IIIIII)Z -/
def m1730 : pm_M := (fun j => [b1730_0, b1730_1, b1730_2, b1730_3, b1730_4, b1730_5, b1730_6, b1730_7, b1730_8, b1730_9].getD j [], fun _ => [], 27, 8)
def b1731_0 : List Instr := [.lload 0, .lload 2, .lcmp, .ifCond .lt 1, .lload 0, .lload 4, .lcmp, .ifCond .gt 1, .sipush 1, .goto 2]
def b1731_1 : List Instr := [.sipush 0, .goto_w 2]
def b1731_2 : List Instr := [.jsr 2]
/-- TimberHouseModel$Rips.isIn(JJJ)Z -/
def m1731 : pm_M := (fun j => [b1731_0, b1731_1, b1731_2].getD j [], fun _ => [], 0, 6)
def b1732_0 : List Instr := [.aload 0, .aload 0, .getfield 27914, .ifCond .eq 1, .iload 1, .ifCond .ne 1, .sipush 1, .goto 2]
def b1732_1 : List Instr := [.sipush 0, .goto_w 2]
def b1732_2 : List Instr := [.putfield 27914, .iload 1, .jsr 2]
/-- TimberHouseModel$Rips.told(Z)Z -/
def m1732 : pm_M := (fun j => [b1732_0, b1732_1, b1732_2].getD j [], fun _ => [], 27, 2)
def b1733_0 : List Instr := [.aload 0, .getfield 27648, .jsr 0]
/-- TimberHouseModel$Rips.thrown()I -/
def m1733 : pm_M := (fun j => [b1733_0].getD j [], fun _ => [], 27, 1)
def b1734_0 : List Instr := [.iload 1, .i2l, .bipush 1, .bipush 65536, .invokeinterface 1731 3, .ifCond .eq 1, .iload 2, .i2l, .bipush 1, .bipush 65536, .invokeinterface 1731 3, .ifCond .eq 1, .iload 3, .i2l, .iload 2, .i2l, .bipush 65536, .invokeinterface 1731 3, .ifCond .eq 1, .lload 4, .bipush 1, .bipush 100000, .invokeinterface 1731 3, .ifCond .eq 1, .sipush 1, .goto 2]
def b1734_1 : List Instr := [.sipush 0, .goto_w 2]
def b1734_2 : List Instr := [.istore 6, .aload 0, .aload 0, .getfield 27736, .sipush 8, .if_icmp .ne 3, .sipush 1, .goto 5]
def b1734_3 : List Instr := [.iload 6, .ifCond .eq 4, .sipush 0, .goto 5]
def b1734_4 : List Instr := [.sipush 2, .goto_w 5]
def b1734_5 : List Instr := [.putfield 27648, .aload 0, .getfield 27648, .ifCond .le 6, .sipush 0, .jsr 0]
def b1734_6 : List Instr := [.aload 0, .getfield 27747, .aload 0, .getfield 27736, .aload 0, .iload 1, .invokeinterface 1735 2, .iastore, .aload 0, .getfield 27755, .aload 0, .getfield 27736, .iload 2, .iastore, .aload 0, .getfield 27763, .aload 0, .getfield 27736, .iload 3, .iastore, .aload 0, .getfield 27771, .aload 0, .getfield 27736, .lload 4, .lastore, .aload 0, .dup, .getfield 27736, .sipush 1, .iadd, .putfield 27736, .aload 0, .sipush 0, .putfield 27914, .aload 0, .getfield 27736, .sipush 1, .isub, .jsr 0]
/-- TimberHouseModel$Rips.piece(IIIJ)I -/
def m1734 : pm_M := (fun j => [b1734_0, b1734_1, b1734_2, b1734_3, b1734_4, b1734_5, b1734_6].getD j [], fun _ => [], 27, 7)
def b1735_0 : List Instr := [.iload 1, .aload 0, .getfield 27656, .iadd, .sipush 1, .isub, .aload 0, .getfield 27656, .idiv, .jsr 0]
/-- TimberHouseModel$Rips.stepsOf(I)I -/
def m1735 : pm_M := (fun j => [b1735_0].getD j [], fun _ => [], 27, 2)
def b1736_0 : List Instr := [.aload 0, .iload 1, .invokeinterface 1737 2, .ifCond .eq 1, .sipush 0, .jsr 2]
def b1736_1 : List Instr := [.aload 0, .iload 2, .ifCond .lt 2, .iload 2, .sipush 1, .if_icmp .le 3, .goto_w 2]
def b1736_2 : List Instr := [.sipush 1, .goto 5]
def b1736_3 : List Instr := [.iload 3, .i2l, .bipush 0, .bipush 7, .invokeinterface 1731 3, .ifCond .eq 4, .sipush 0, .goto 5]
def b1736_4 : List Instr := [.sipush 2, .goto_w 5]
def b1736_5 : List Instr := [.putfield 27648, .aload 0, .getfield 27648, .ifCond .gt 6, .aload 0, .getfield 27779, .sipush 16, .iload 1, .imul, .sipush 8, .iload 2, .imul, .iadd, .iload 3, .iadd, .baload, .ifCond .eq 7, .goto_w 6]
def b1736_6 : List Instr := [.sipush 0, .jsr 2]
def b1736_7 : List Instr := [.aload 0, .getfield 27779, .sipush 16, .iload 1, .imul, .sipush 8, .iload 2, .imul, .iadd, .iload 3, .iadd, .sipush 1, .bastore, .aload 0, .sipush 1, .invokeinterface 1732 2, .jsr 2]
/-- TimberHouseModel$Rips.allows(III)Z -/
def m1736 : pm_M := (fun j => [b1736_0, b1736_1, b1736_2, b1736_3, b1736_4, b1736_5, b1736_6, b1736_7].getD j [], fun _ => [], 27, 4)
def b1737_0 : List Instr := [.aload 0, .iload 1, .ifCond .lt 1, .iload 1, .aload 0, .getfield 27736, .if_icmp .lt 2, .goto_w 1]
def b1737_1 : List Instr := [.sipush 1, .goto 3]
def b1737_2 : List Instr := [.sipush 0, .goto_w 3]
def b1737_3 : List Instr := [.putfield 27648, .aload 0, .getfield 27648, .ifCond .le 4, .sipush 1, .goto 5]
def b1737_4 : List Instr := [.sipush 0, .goto_w 5]
def b1737_5 : List Instr := [.jsr 2]
/-- TimberHouseModel$Rips.noPiece(I)Z -/
def m1737 : pm_M := (fun j => [b1737_0, b1737_1, b1737_2, b1737_3, b1737_4, b1737_5].getD j [], fun _ => [], 27, 2)
def b1738_0 : List Instr := [.aload 0, .iload 1, .i2l, .bipush 1, .bipush 65536, .invokeinterface 1731 3, .ifCond .eq 1, .sipush 0, .goto 2]
def b1738_1 : List Instr := [.sipush 1, .goto_w 2]
def b1738_2 : List Instr := [.putfield 27648, .aload 0, .getfield 27648, .ifCond .gt 3, .aload 0, .getfield 27811, .aload 0, .iload 1, .invokeinterface 1735 2, .baload, .ifCond .eq 4, .goto_w 3]
def b1738_3 : List Instr := [.sipush 0, .jsr 2]
def b1738_4 : List Instr := [.aload 0, .getfield 27811, .aload 0, .iload 1, .invokeinterface 1735 2, .sipush 1, .bastore, .aload 0, .sipush 1, .putfield 27818, .aload 0, .sipush 1, .invokeinterface 1732 2, .jsr 2]
/-- TimberHouseModel$Rips.gang(I)Z -/
def m1738 : pm_M := (fun j => [b1738_0, b1738_1, b1738_2, b1738_3, b1738_4].getD j [], fun _ => [], 27, 2)
def b1739_0 : List Instr := [.aload 0, .iload 1, .invokeinterface 1737 2, .ifCond .eq 1, .sipush 0, .jsr 2]
def b1739_1 : List Instr := [.aload 0, .iload 2, .i2l, .bipush 0, .bipush 1000, .invokeinterface 1731 3, .ifCond .eq 2, .sipush 0, .goto 3]
def b1739_2 : List Instr := [.sipush 2, .goto_w 3]
def b1739_3 : List Instr := [.putfield 27648, .aload 0, .getfield 27648, .ifCond .gt 4, .aload 0, .getfield 27787, .iload 1, .iaload, .iload 2, .if_icmp .ne 5, .goto_w 4]
def b1739_4 : List Instr := [.sipush 0, .jsr 2]
def b1739_5 : List Instr := [.aload 0, .getfield 27787, .iload 1, .iload 2, .iastore, .aload 0, .sipush 1, .invokeinterface 1732 2, .jsr 2]
/-- TimberHouseModel$Rips.need(II)Z -/
def m1739 : pm_M := (fun j => [b1739_0, b1739_1, b1739_2, b1739_3, b1739_4, b1739_5].getD j [], fun _ => [], 27, 3)
def b1740_0 : List Instr := [.aload 0, .iload 1, .i2l, .bipush 0, .bipush 65536, .invokeinterface 1731 3, .ifCond .eq 1, .sipush 0, .goto 2]
def b1740_1 : List Instr := [.sipush 1, .goto_w 2]
def b1740_2 : List Instr := [.putfield 27648, .aload 0, .getfield 27648, .ifCond .gt 3, .iload 1, .aload 0, .getfield 27824, .if_icmp .ne 4, .goto_w 3]
def b1740_3 : List Instr := [.sipush 0, .jsr 2]
def b1740_4 : List Instr := [.aload 0, .iload 1, .putfield 27824, .aload 0, .sipush 1, .invokeinterface 1732 2, .jsr 2]
/-- TimberHouseModel$Rips.margin(I)Z -/
def m1740 : pm_M := (fun j => [b1740_0, b1740_1, b1740_2, b1740_3, b1740_4].getD j [], fun _ => [], 27, 2)
def b1741_0 : List Instr := [.aload 0, .iload 1, .i2l, .bipush 1, .bipush 16777216, .invokeinterface 1731 3, .ifCond .eq 1, .sipush 0, .goto 2]
def b1741_1 : List Instr := [.sipush 1, .goto_w 2]
def b1741_2 : List Instr := [.putfield 27648, .aload 0, .getfield 27648, .ifCond .gt 3, .iload 1, .aload 0, .getfield 27832, .if_icmp .ne 4, .goto_w 3]
def b1741_3 : List Instr := [.sipush 0, .jsr 2]
def b1741_4 : List Instr := [.aload 0, .iload 1, .putfield 27832, .aload 0, .sipush 1, .invokeinterface 1732 2, .jsr 2]
/-- TimberHouseModel$Rips.bow(I)Z -/
def m1741 : pm_M := (fun j => [b1741_0, b1741_1, b1741_2, b1741_3, b1741_4].getD j [], fun _ => [], 27, 2)
def b1742_0 : List Instr := [.aload 0, .iload 1, .i2l, .bipush 0, .bipush 1, .invokeinterface 1731 3, .ifCond .eq 1, .iload 2, .i2l, .bipush 1, .bipush 3, .invokeinterface 1731 3, .ifCond .eq 1, .sipush 0, .goto 2]
def b1742_1 : List Instr := [.sipush 1, .goto_w 2]
def b1742_2 : List Instr := [.putfield 27648, .aload 0, .getfield 27648, .ifCond .le 3, .sipush 0, .jsr 0]
def b1742_3 : List Instr := [.aload 0, .iload 1, .putfield 27920, .aload 0, .iload 2, .putfield 27928, .sipush 0, .istore 3, .goto_w 4]
def b1742_4 : List Instr := [.iload 3, .sipush 8, .if_icmp .ge 5, .aload 0, .getfield 27795, .iload 3, .bipush 0, .lastore, .aload 0, .getfield 27803, .iload 3, .bipush 0, .lastore, .iinc 3 1, .goto 4]
def b1742_5 : List Instr := [.aload 0, .aload 0, .invokeinterface 1743 1, .putfield 28001, .aload 0, .sipush 1, .putfield 27914, .aload 0, .getfield 27936, .jsr 0]
/-- TimberHouseModel$Rips.run(II)I -/
def m1742 : pm_M := (fun j => [b1742_0, b1742_1, b1742_2, b1742_3, b1742_4, b1742_5].getD j [], fun _ => [], 27, 4)
def b1743_0 : List Instr := [.aload 0, .sipush 0, .putfield 27936, .aload 0, .getfield 27664, .ifCond .eq 1, .aload 0, .getfield 27672, .ifCond .ne 2, .goto_w 1]
def b1743_1 : List Instr := [.bipush 0, .lreturn]
def b1743_2 : List Instr := [.aload 0, .invokeinterface 1744 1, .aload 0, .getfield 27928, .sipush 1, .if_icmp .le 3, .aload 0, .invokeinterface 1749 1, .goto_w 3]
def b1743_3 : List Instr := [.aload 0, .getfield 27928, .sipush 2, .if_icmp .le 4, .aload 0, .invokeinterface 1756 1, .goto_w 4]
def b1743_4 : List Instr := [.aload 0, .getfield 27928, .sipush 1, .if_icmp .ne 5, .aload 0, .sipush 0, .aload 0, .getfield 27664, .sipush 0, .aload 0, .getfield 27672, .invokeinterface 1757 5, .goto 7]
def b1743_5 : List Instr := [.aload 0, .getfield 27928, .sipush 2, .if_icmp .ne 6, .aload 0, .sipush 0, .aload 0, .getfield 27664, .sipush 0, .aload 0, .getfield 27672, .invokeinterface 1760 5, .goto 7]
def b1743_6 : List Instr := [.aload 0, .invokeinterface 1761 1, .goto_w 7]
def b1743_7 : List Instr := [.bipush 0, .lstore 1, .sipush 0, .istore 3, .goto_w 8]
def b1743_8 : List Instr := [.iload 3, .aload 0, .getfield 27936, .if_icmp .ge 9, .lload 1, .aload 0, .getfield 27771, .aload 0, .getfield 27979, .iload 3, .iaload, .laload, .aload 0, .getfield 27963, .iload 3, .iaload, .i2l, .lmul, .aload 0, .getfield 27795, .aload 0, .getfield 27979, .iload 3, .iaload, .laload, .lsub, .ladd, .lstore 1, .iinc 3 1, .goto 8]
def b1743_9 : List Instr := [.lload 1, .lreturn]
/-- TimberHouseModel$Rips.plan()J -/
def m1743 : pm_M := (fun j => [b1743_0, b1743_1, b1743_2, b1743_3, b1743_4, b1743_5, b1743_6, b1743_7, b1743_8, b1743_9].getD j [], fun _ => [], 27, 4)
def b1744_0 : List Instr := [.sipush 0, .istore 1, .goto_w 1]
def b1744_1 : List Instr := [.iload 1, .aload 0, .getfield 27664, .if_icmp .ge 8, .iload 1, .sipush 1, .iadd, .istore 2, .goto_w 2]
def b1744_2 : List Instr := [.iload 2, .aload 0, .getfield 27664, .if_icmp .gt 7, .sipush 0, .istore 3, .goto_w 3]
def b1744_3 : List Instr := [.iload 3, .aload 0, .getfield 27672, .if_icmp .ge 6, .iload 3, .sipush 1, .iadd, .istore 4, .goto_w 4]
def b1744_4 : List Instr := [.iload 4, .aload 0, .getfield 27672, .if_icmp .gt 5, .aload 0, .iload 1, .iload 2, .iload 3, .iload 4, .invokeinterface 1745 5, .iinc 4 1, .goto 4]
def b1744_5 : List Instr := [.iinc 3 1, .goto 3]
def b1744_6 : List Instr := [.iinc 2 1, .goto 2]
def b1744_7 : List Instr := [.iinc 1 1, .goto 1]
def b1744_8 : List Instr := [.return_]
/-- TimberHouseModel$Rips.fillPieces()V -/
def m1744 : pm_M := (fun j => [b1744_0, b1744_1, b1744_2, b1744_3, b1744_4, b1744_5, b1744_6, b1744_7, b1744_8].getD j [], fun _ => [], 27, 5)
def b1745_0 : List Instr := [.iload 1, .iload 2, .iload 3, .iload 4, .invokeinterface 1746 4, .istore 5, .aload 0, .getfield 27843, .iload 5, .bipush 0, .lastore, .aload 0, .getfield 27851, .iload 5, .sipush 0, .iastore, .sipush 0, .istore 6, .goto_w 1]
def b1745_1 : List Instr := [.iload 6, .aload 0, .getfield 27736, .if_icmp .ge 4, .aload 0, .getfield 27771, .iload 6, .laload, .iload 2, .iload 1, .isub, .i2l, .lmul, .aload 0, .getfield 27795, .iload 6, .laload, .lsub, .lstore 7, .aload 0, .getfield 27851, .iload 5, .iaload, .ifCond .eq 2, .lload 7, .aload 0, .getfield 27843, .iload 5, .laload, .lcmp, .ifCond .le 3, .goto_w 2]
def b1745_2 : List Instr := [.aload 0, .iload 6, .iload 1, .iload 2, .iload 3, .iload 4, .invokeinterface 1747 6, .ifCond .eq 3, .aload 0, .getfield 27843, .iload 5, .lload 7, .lastore, .aload 0, .getfield 27851, .iload 5, .sipush 1, .iastore, .aload 0, .getfield 27859, .iload 5, .iload 6, .iastore, .goto_w 3]
def b1745_3 : List Instr := [.iinc 6 1, .goto 1]
def b1745_4 : List Instr := [.return_]
/-- TimberHouseModel$Rips.bestPiece(IIII)V -/
def m1745 : pm_M := (fun j => [b1745_0, b1745_1, b1745_2, b1745_3, b1745_4].getD j [], fun _ => [], 27, 9)
def b1746_0 : List Instr := [.sipush 25, .iload 0, .imul, .iload 1, .iadd, .sipush 11, .imul, .iload 2, .iadd, .sipush 11, .imul, .iload 3, .iadd, .jsr 0]
/-- TimberHouseModel$Rips.number(IIII)I -/
def m1746 : pm_M := (fun j => [b1746_0].getD j [], fun _ => [], 0, 4)
def b1747_0 : List Instr := [.iload 3, .iload 2, .isub, .aload 0, .getfield 27656, .imul, .istore 6, .iload 5, .iload 4, .isub, .aload 0, .getfield 27747, .iload 1, .iaload, .if_icmp .ne 1, .iload 6, .aload 0, .getfield 27755, .iload 1, .iaload, .if_icmp .lt 1, .iload 6, .aload 0, .getfield 27763, .iload 1, .iaload, .if_icmp .gt 1, .iload 6, .aload 0, .getfield 27832, .if_icmp .gt 1, .sipush 1, .goto 2]
def b1747_1 : List Instr := [.sipush 0, .goto_w 2]
def b1747_2 : List Instr := [.istore 7, .sipush 0, .istore 8, .goto_w 3]
def b1747_3 : List Instr := [.iload 8, .aload 0, .getfield 27680, .if_icmp .ge 7, .iload 7, .ifCond .eq 7, .aload 0, .getfield 27779, .sipush 16, .iload 1, .imul, .sipush 8, .aload 0, .getfield 27691, .iload 8, .iaload, .imul, .iadd, .aload 0, .getfield 27699, .iload 8, .iaload, .iadd, .baload, .ifCond .ne 4, .aload 0, .iload 8, .iload 2, .iload 3, .iload 4, .iload 5, .invokeinterface 1748 6, .ifCond .ne 5, .goto_w 4]
def b1747_4 : List Instr := [.sipush 1, .goto 6]
def b1747_5 : List Instr := [.sipush 0, .goto_w 6]
def b1747_6 : List Instr := [.istore 7, .iinc 8 1, .goto 3]
def b1747_7 : List Instr := [.iload 7, .jsr 2]
/-- TimberHouseModel$Rips.may(IIIII)Z -/
def m1747 : pm_M := (fun j => [b1747_0, b1747_1, b1747_2, b1747_3, b1747_4, b1747_5, b1747_6, b1747_7].getD j [], fun _ => [], 27, 9)
def b1748_0 : List Instr := [.aload 0, .getfield 27707, .iload 1, .iaload, .aload 0, .getfield 27824, .isub, .iload 3, .aload 0, .getfield 27656, .imul, .if_icmp .ge 1, .aload 0, .getfield 27707, .iload 1, .iaload, .aload 0, .getfield 27723, .iload 1, .iaload, .iadd, .aload 0, .getfield 27824, .iadd, .iload 2, .aload 0, .getfield 27656, .imul, .if_icmp .le 1, .sipush 1, .goto 2]
def b1748_1 : List Instr := [.sipush 0, .goto_w 2]
def b1748_2 : List Instr := [.istore 6, .aload 0, .getfield 27715, .iload 1, .iaload, .aload 0, .getfield 27824, .isub, .iload 5, .aload 0, .getfield 27656, .imul, .if_icmp .ge 3, .aload 0, .getfield 27715, .iload 1, .iaload, .aload 0, .getfield 27731, .iload 1, .iaload, .iadd, .aload 0, .getfield 27824, .iadd, .iload 4, .aload 0, .getfield 27656, .imul, .if_icmp .le 3, .sipush 1, .goto 4]
def b1748_3 : List Instr := [.sipush 0, .goto_w 4]
def b1748_4 : List Instr := [.istore 7, .iload 6, .ifCond .eq 5, .iload 7, .ifCond .eq 5, .sipush 1, .goto 6]
def b1748_5 : List Instr := [.sipush 0, .goto_w 6]
def b1748_6 : List Instr := [.jsr 2]
/-- TimberHouseModel$Rips.isOver(IIIII)Z -/
def m1748 : pm_M := (fun j => [b1748_0, b1748_1, b1748_2, b1748_3, b1748_4, b1748_5, b1748_6].getD j [], fun _ => [], 27, 8)
def b1749_0 : List Instr := [.sipush 0, .istore 1, .goto_w 1]
def b1749_1 : List Instr := [.iload 1, .aload 0, .getfield 27664, .if_icmp .ge 8, .iload 1, .sipush 1, .iadd, .istore 2, .goto_w 2]
def b1749_2 : List Instr := [.iload 2, .aload 0, .getfield 27664, .if_icmp .gt 7, .sipush 0, .istore 3, .goto_w 3]
def b1749_3 : List Instr := [.iload 3, .aload 0, .getfield 27672, .if_icmp .ge 6, .iload 3, .sipush 1, .iadd, .istore 4, .goto_w 4]
def b1749_4 : List Instr := [.iload 4, .aload 0, .getfield 27672, .if_icmp .gt 5, .aload 0, .sipush 1, .iload 1, .iload 2, .iload 3, .iload 4, .invokeinterface 1750 6, .aload 0, .getfield 27867, .iload 1, .iload 2, .iload 3, .iload 4, .invokeinterface 1746 4, .aload 0, .getfield 27899, .sipush 32, .laload, .lastore, .aload 0, .getfield 27875, .iload 1, .iload 2, .iload 3, .iload 4, .invokeinterface 1746 4, .aload 0, .getfield 27907, .sipush 32, .iaload, .iastore, .iinc 4 1, .goto 4]
def b1749_5 : List Instr := [.iinc 3 1, .goto 3]
def b1749_6 : List Instr := [.iinc 2 1, .goto 2]
def b1749_7 : List Instr := [.iinc 1 1, .goto 1]
def b1749_8 : List Instr := [.return_]
/-- TimberHouseModel$Rips.fillOne()V -/
def m1749 : pm_M := (fun j => [b1749_0, b1749_1, b1749_2, b1749_3, b1749_4, b1749_5, b1749_6, b1749_7, b1749_8].getD j [], fun _ => [], 27, 5)
def b1750_0 : List Instr := [.aload 0, .iload 1, .invokeinterface 1751 2, .istore 6, .iload 6, .ifCond .eq 1, .iload 5, .iload 4, .isub, .goto 2]
def b1750_1 : List Instr := [.iload 3, .iload 2, .isub, .goto_w 2]
def b1750_2 : List Instr := [.istore 7, .sipush 32, .iload 1, .imul, .istore 8, .aload 0, .getfield 27899, .iload 8, .iload 7, .iadd, .bipush 0, .lastore, .aload 0, .getfield 27907, .iload 8, .iload 7, .iadd, .sipush 0, .iastore, .iload 7, .sipush 1, .isub, .istore 9, .goto_w 3]
def b1750_3 : List Instr := [.iload 9, .ifCond .lt 8, .aload 0, .getfield 27899, .iload 8, .iload 9, .iadd, .aload 0, .getfield 27899, .iload 8, .iload 9, .iadd, .sipush 1, .iadd, .laload, .lastore, .aload 0, .getfield 27907, .iload 8, .iload 9, .iadd, .aload 0, .getfield 27907, .iload 8, .iload 9, .iadd, .sipush 1, .iadd, .iaload, .iastore, .iload 9, .sipush 1, .iadd, .istore 10, .goto_w 4]
def b1750_4 : List Instr := [.iload 10, .iload 7, .if_icmp .gt 7, .aload 0, .iload 6, .iload 2, .iload 3, .iload 4, .iload 5, .iload 9, .iload 10, .invokeinterface 1752 8, .istore 11, .aload 0, .iload 1, .sipush 1, .isub, .iload 11, .invokeinterface 1753 3, .istore 12, .iload 12, .ifCond .le 6, .aload 0, .iload 1, .iload 10, .iload 9, .isub, .invokeinterface 1754 3, .ifCond .eq 6, .aload 0, .getfield 27899, .iload 8, .iload 10, .iadd, .laload, .aload 0, .iload 1, .sipush 1, .isub, .iload 11, .invokeinterface 1755 3, .ladd, .lstore 13, .aload 0, .getfield 27907, .iload 8, .iload 10, .iadd, .iaload, .iload 12, .iadd, .istore 15, .lload 13, .aload 0, .getfield 27899, .iload 8, .iload 9, .iadd, .laload, .lcmp, .ifCond .gt 5, .lload 13, .aload 0, .getfield 27899, .iload 8, .iload 9, .iadd, .laload, .lcmp, .ifCond .ne 6, .iload 15, .aload 0, .getfield 27907, .iload 8, .iload 9, .iadd, .iaload, .if_icmp .ge 6, .goto_w 5]
def b1750_5 : List Instr := [.aload 0, .getfield 27899, .iload 8, .iload 9, .iadd, .lload 13, .lastore, .aload 0, .getfield 27907, .iload 8, .iload 9, .iadd, .iload 15, .iastore, .goto_w 6]
def b1750_6 : List Instr := [.iinc 10 1, .goto 4]
def b1750_7 : List Instr := [.iinc 9 (-1), .goto 3]
def b1750_8 : List Instr := [.return_]
/-- TimberHouseModel$Rips.reckon(IIIII)V -/
def m1750 : pm_M := (fun j => [b1750_0, b1750_1, b1750_2, b1750_3, b1750_4, b1750_5, b1750_6, b1750_7, b1750_8].getD j [], fun _ => [], 27, 16)
def b1751_0 : List Instr := [.aload 0, .getfield 27920, .ifCond .ne 1, .sipush 1, .goto 2]
def b1751_1 : List Instr := [.sipush 0, .goto_w 2]
def b1751_2 : List Instr := [.aload 0, .getfield 27928, .iload 1, .isub, .sipush 2, .irem, .ifCond .ne 3, .sipush 1, .goto 4]
def b1751_3 : List Instr := [.sipush 0, .goto_w 4]
def b1751_4 : List Instr := [.if_icmp .ne 5, .sipush 1, .goto 6]
def b1751_5 : List Instr := [.sipush 0, .goto_w 6]
def b1751_6 : List Instr := [.jsr 2]
/-- TimberHouseModel$Rips.isRipped(I)Z -/
def m1751 : pm_M := (fun j => [b1751_0, b1751_1, b1751_2, b1751_3, b1751_4, b1751_5, b1751_6].getD j [], fun _ => [], 27, 2)
def b1752_0 : List Instr := [.iload 1, .ifCond .eq 1, .iload 2, .iload 3, .iload 4, .iload 6, .iadd, .iload 4, .iload 7, .iadd, .invokeinterface 1746 4, .goto 2]
def b1752_1 : List Instr := [.iload 2, .iload 6, .iadd, .iload 2, .iload 7, .iadd, .iload 4, .iload 5, .invokeinterface 1746 4, .goto_w 2]
def b1752_2 : List Instr := [.jsr 0]
/-- TimberHouseModel$Rips.segment(ZIIIIII)I -/
def m1752 : pm_M := (fun j => [b1752_0, b1752_1, b1752_2].getD j [], fun _ => [], 27, 8)
def b1753_0 : List Instr := [.iload 1, .ifCond .ne 1, .aload 0, .getfield 27851, .iload 2, .iaload, .goto 3]
def b1753_1 : List Instr := [.iload 1, .sipush 1, .if_icmp .ne 2, .aload 0, .getfield 27875, .iload 2, .iaload, .goto 3]
def b1753_2 : List Instr := [.aload 0, .getfield 27891, .iload 2, .iaload, .goto_w 3]
def b1753_3 : List Instr := [.jsr 0]
/-- TimberHouseModel$Rips.countBy(II)I -/
def m1753 : pm_M := (fun j => [b1753_0, b1753_1, b1753_2, b1753_3].getD j [], fun _ => [], 27, 3)
def b1754_0 : List Instr := [.iload 1, .aload 0, .getfield 27928, .if_icmp .lt 1, .aload 0, .iload 1, .invokeinterface 1751 2, .ifCond .eq 1, .aload 0, .getfield 27818, .ifCond .eq 1, .aload 0, .getfield 27811, .iload 2, .baload, .ifCond .eq 2, .goto_w 1]
def b1754_1 : List Instr := [.sipush 1, .goto 3]
def b1754_2 : List Instr := [.sipush 0, .goto_w 3]
def b1754_3 : List Instr := [.jsr 2]
/-- TimberHouseModel$Rips.isCut(II)Z -/
def m1754 : pm_M := (fun j => [b1754_0, b1754_1, b1754_2, b1754_3].getD j [], fun _ => [], 27, 3)
def b1755_0 : List Instr := [.iload 1, .ifCond .ne 1, .aload 0, .getfield 27843, .iload 2, .laload, .goto 3]
def b1755_1 : List Instr := [.iload 1, .sipush 1, .if_icmp .ne 2, .aload 0, .getfield 27867, .iload 2, .laload, .goto 3]
def b1755_2 : List Instr := [.aload 0, .getfield 27883, .iload 2, .laload, .goto_w 3]
def b1755_3 : List Instr := [.lreturn]
/-- TimberHouseModel$Rips.valueBy(II)J -/
def m1755 : pm_M := (fun j => [b1755_0, b1755_1, b1755_2, b1755_3].getD j [], fun _ => [], 27, 3)
def b1756_0 : List Instr := [.aload 0, .sipush 3, .invokeinterface 1751 2, .istore 1, .iload 1, .ifCond .eq 1, .aload 0, .getfield 27672, .goto 2]
def b1756_1 : List Instr := [.aload 0, .getfield 27664, .goto_w 2]
def b1756_2 : List Instr := [.istore 2, .sipush 0, .istore 3, .goto_w 3]
def b1756_3 : List Instr := [.iload 3, .iload 2, .if_icmp .ge 8, .iload 3, .sipush 1, .iadd, .istore 4, .goto_w 4]
def b1756_4 : List Instr := [.iload 4, .iload 2, .if_icmp .gt 7, .iload 1, .ifCond .eq 5, .aload 0, .sipush 2, .sipush 0, .aload 0, .getfield 27664, .iload 3, .iload 4, .invokeinterface 1750 6, .goto 6]
def b1756_5 : List Instr := [.aload 0, .sipush 2, .iload 3, .iload 4, .sipush 0, .aload 0, .getfield 27672, .invokeinterface 1750 6, .goto_w 6]
def b1756_6 : List Instr := [.aload 0, .iload 1, .sipush 0, .aload 0, .getfield 27664, .sipush 0, .aload 0, .getfield 27672, .iload 3, .iload 4, .invokeinterface 1752 8, .istore 5, .aload 0, .getfield 27883, .iload 5, .aload 0, .getfield 27899, .sipush 64, .laload, .lastore, .aload 0, .getfield 27891, .iload 5, .aload 0, .getfield 27907, .sipush 64, .iaload, .iastore, .iinc 4 1, .goto 4]
def b1756_7 : List Instr := [.iinc 3 1, .goto 3]
def b1756_8 : List Instr := [.return_]
/-- TimberHouseModel$Rips.fillTwo()V -/
def m1756 : pm_M := (fun j => [b1756_0, b1756_1, b1756_2, b1756_3, b1756_4, b1756_5, b1756_6, b1756_7, b1756_8].getD j [], fun _ => [], 27, 6)
def b1757_0 : List Instr := [.aload 0, .sipush 1, .iload 1, .iload 2, .iload 3, .iload 4, .invokeinterface 1750 6, .aload 0, .sipush 1, .invokeinterface 1751 2, .istore 5, .iload 5, .ifCond .eq 1, .iload 4, .iload 3, .isub, .goto 2]
def b1757_1 : List Instr := [.iload 2, .iload 1, .isub, .goto_w 2]
def b1757_2 : List Instr := [.istore 6, .sipush 0, .istore 7, .goto_w 3]
def b1757_3 : List Instr := [.iload 7, .iload 6, .if_icmp .ge 8, .aload 0, .sipush 1, .iload 7, .iload 1, .iload 2, .iload 3, .iload 4, .invokeinterface 1758 7, .istore 8, .iload 8, .ifCond .le 4, .iload 5, .ifCond .eq 4, .aload 0, .iload 1, .iload 2, .iload 3, .iload 7, .iadd, .iload 3, .iload 8, .iadd, .invokeinterface 1759 5, .goto 5]
def b1757_4 : List Instr := [.iload 8, .ifCond .le 5, .aload 0, .iload 1, .iload 7, .iadd, .iload 1, .iload 8, .iadd, .iload 3, .iload 4, .invokeinterface 1759 5, .goto_w 5]
def b1757_5 : List Instr := [.iload 8, .ifCond .le 6, .iload 8, .goto 7]
def b1757_6 : List Instr := [.iload 7, .sipush 1, .iadd, .goto_w 7]
def b1757_7 : List Instr := [.istore 7, .goto 3]
def b1757_8 : List Instr := [.return_]
/-- TimberHouseModel$Rips.walkOne(IIII)V -/
def m1757 : pm_M := (fun j => [b1757_0, b1757_1, b1757_2, b1757_3, b1757_4, b1757_5, b1757_6, b1757_7, b1757_8].getD j [], fun _ => [], 27, 9)
def b1758_0 : List Instr := [.aload 0, .iload 1, .invokeinterface 1751 2, .istore 7, .sipush 32, .iload 1, .imul, .istore 8, .iload 7, .ifCond .eq 1, .iload 6, .iload 5, .isub, .goto 2]
def b1758_1 : List Instr := [.iload 4, .iload 3, .isub, .goto_w 2]
def b1758_2 : List Instr := [.istore 9, .goto_w 3]
def b1758_3 : List Instr := [.iload 9, .iload 2, .if_icmp .le 7, .aload 0, .iload 7, .iload 3, .iload 4, .iload 5, .iload 6, .iload 2, .iload 9, .invokeinterface 1752 8, .istore 10, .aload 0, .iload 1, .sipush 1, .isub, .iload 10, .invokeinterface 1753 3, .istore 11, .aload 0, .getfield 27899, .iload 8, .iload 9, .iadd, .laload, .aload 0, .iload 1, .sipush 1, .isub, .iload 10, .invokeinterface 1755 3, .ladd, .aload 0, .getfield 27899, .iload 8, .iload 2, .iadd, .laload, .lcmp, .ifCond .ne 4, .aload 0, .getfield 27907, .iload 8, .iload 9, .iadd, .iaload, .iload 11, .iadd, .aload 0, .getfield 27907, .iload 8, .iload 2, .iadd, .iaload, .if_icmp .ne 4, .sipush 1, .goto 5]
def b1758_4 : List Instr := [.sipush 0, .goto_w 5]
def b1758_5 : List Instr := [.istore 12, .iload 11, .ifCond .le 6, .iload 12, .ifCond .eq 6, .aload 0, .iload 1, .iload 9, .iload 2, .isub, .invokeinterface 1754 3, .ifCond .eq 6, .iload 9, .jsr 0]
def b1758_6 : List Instr := [.iinc 9 (-1), .goto 3]
def b1758_7 : List Instr := [.sipush (-1), .jsr 0]
/-- TimberHouseModel$Rips.segmentFrom(IIIIII)I -/
def m1758 : pm_M := (fun j => [b1758_0, b1758_1, b1758_2, b1758_3, b1758_4, b1758_5, b1758_6, b1758_7].getD j [], fun _ => [], 27, 13)
def b1759_0 : List Instr := [.aload 0, .getfield 27947, .aload 0, .getfield 27936, .iload 1, .iastore, .aload 0, .getfield 27955, .aload 0, .getfield 27936, .iload 3, .iastore, .aload 0, .getfield 27963, .aload 0, .getfield 27936, .iload 2, .iload 1, .isub, .iastore, .aload 0, .getfield 27971, .aload 0, .getfield 27936, .iload 4, .iload 3, .isub, .iastore, .aload 0, .getfield 27979, .aload 0, .getfield 27936, .aload 0, .getfield 27859, .iload 1, .iload 2, .iload 3, .iload 4, .invokeinterface 1746 4, .iaload, .iastore, .aload 0, .dup, .getfield 27936, .sipush 1, .iadd, .putfield 27936, .return_]
/-- TimberHouseModel$Rips.put(IIII)V -/
def m1759 : pm_M := (fun j => [b1759_0].getD j [], fun _ => [], 27, 5)
def b1760_0 : List Instr := [.aload 0, .sipush 2, .iload 1, .iload 2, .iload 3, .iload 4, .invokeinterface 1750 6, .aload 0, .sipush 2, .invokeinterface 1751 2, .istore 5, .iload 5, .ifCond .eq 1, .iload 4, .iload 3, .isub, .goto 2]
def b1760_1 : List Instr := [.iload 2, .iload 1, .isub, .goto_w 2]
def b1760_2 : List Instr := [.istore 6, .sipush 0, .istore 7, .goto_w 3]
def b1760_3 : List Instr := [.iload 7, .iload 6, .if_icmp .ge 8, .aload 0, .sipush 2, .iload 7, .iload 1, .iload 2, .iload 3, .iload 4, .invokeinterface 1758 7, .istore 8, .iload 8, .ifCond .le 4, .iload 5, .ifCond .eq 4, .aload 0, .iload 1, .iload 2, .iload 3, .iload 7, .iadd, .iload 3, .iload 8, .iadd, .invokeinterface 1757 5, .goto 5]
def b1760_4 : List Instr := [.iload 8, .ifCond .le 5, .aload 0, .iload 1, .iload 7, .iadd, .iload 1, .iload 8, .iadd, .iload 3, .iload 4, .invokeinterface 1757 5, .goto_w 5]
def b1760_5 : List Instr := [.iload 8, .ifCond .le 6, .iload 8, .goto 7]
def b1760_6 : List Instr := [.iload 7, .sipush 1, .iadd, .goto_w 7]
def b1760_7 : List Instr := [.istore 7, .goto 3]
def b1760_8 : List Instr := [.return_]
/-- TimberHouseModel$Rips.walkTwo(IIII)V -/
def m1760 : pm_M := (fun j => [b1760_0, b1760_1, b1760_2, b1760_3, b1760_4, b1760_5, b1760_6, b1760_7, b1760_8].getD j [], fun _ => [], 27, 9)
def b1761_0 : List Instr := [.aload 0, .sipush 3, .sipush 0, .aload 0, .getfield 27664, .sipush 0, .aload 0, .getfield 27672, .invokeinterface 1750 6, .aload 0, .sipush 3, .invokeinterface 1751 2, .istore 1, .iload 1, .ifCond .eq 1, .aload 0, .getfield 27672, .goto 2]
def b1761_1 : List Instr := [.aload 0, .getfield 27664, .goto_w 2]
def b1761_2 : List Instr := [.istore 2, .sipush 0, .istore 3, .goto_w 3]
def b1761_3 : List Instr := [.iload 3, .iload 2, .if_icmp .ge 8, .aload 0, .sipush 3, .iload 3, .sipush 0, .aload 0, .getfield 27664, .sipush 0, .aload 0, .getfield 27672, .invokeinterface 1758 7, .istore 4, .iload 4, .ifCond .le 4, .iload 1, .ifCond .eq 4, .aload 0, .sipush 0, .aload 0, .getfield 27664, .iload 3, .iload 4, .invokeinterface 1760 5, .goto 5]
def b1761_4 : List Instr := [.iload 4, .ifCond .le 5, .aload 0, .iload 3, .iload 4, .sipush 0, .aload 0, .getfield 27672, .invokeinterface 1760 5, .goto_w 5]
def b1761_5 : List Instr := [.iload 4, .ifCond .le 6, .iload 4, .goto 7]
def b1761_6 : List Instr := [.iload 3, .sipush 1, .iadd, .goto_w 7]
def b1761_7 : List Instr := [.istore 3, .goto 3]
def b1761_8 : List Instr := [.return_]
/-- TimberHouseModel$Rips.walkThree()V -/
def m1761 : pm_M := (fun j => [b1761_0, b1761_1, b1761_2, b1761_3, b1761_4, b1761_5, b1761_6, b1761_7, b1761_8].getD j [], fun _ => [], 27, 5)
def b1762_0 : List Instr := [.aload 0, .iload 1, .i2l, .bipush 1, .bipush 6, .invokeinterface 1731 3, .ifCond .eq 1, .sipush 0, .goto 2]
def b1762_1 : List Instr := [.sipush 1, .goto_w 2]
def b1762_2 : List Instr := [.putfield 27648, .aload 0, .getfield 27648, .ifCond .le 3, .sipush 0, .jsr 0]
def b1762_3 : List Instr := [.sipush 0, .istore 2, .goto_w 4]
def b1762_4 : List Instr := [.iload 2, .sipush 8, .if_icmp .ge 5, .aload 0, .getfield 27795, .iload 2, .bipush 0, .lastore, .iinc 2 1, .goto 4]
def b1762_5 : List Instr := [.sipush 0, .istore 2, .sipush 0, .istore 3, .bipush 0, .lstore 4, .sipush 0, .istore 6, .goto_w 6]
def b1762_6 : List Instr := [.iload 6, .iload 1, .if_icmp .ge 16, .iload 3, .ifCond .ne 16, .iinc 6 1, .aload 0, .invokeinterface 1743 1, .lstore 7, .sipush 0, .istore 9, .goto_w 7]
def b1762_7 : List Instr := [.iload 9, .aload 0, .getfield 27736, .if_icmp .ge 10, .lload 7, .aload 0, .getfield 27787, .iload 9, .iaload, .ifCond .ge 8, .bipush 0, .goto 9]
def b1762_8 : List Instr := [.aload 0, .getfield 27795, .iload 9, .laload, .aload 0, .getfield 27787, .iload 9, .iaload, .i2l, .lmul, .goto_w 9]
def b1762_9 : List Instr := [.ladd, .lstore 7, .iinc 9 1, .goto 7]
def b1762_10 : List Instr := [.aload 0, .iload 6, .sipush 1, .if_icmp .eq 11, .lload 7, .aload 0, .getfield 28001, .lcmp, .ifCond .ge 12, .goto_w 11]
def b1762_11 : List Instr := [.lload 7, .goto 13]
def b1762_12 : List Instr := [.aload 0, .getfield 28001, .goto_w 13]
def b1762_13 : List Instr := [.putfield 28001, .aload 0, .sipush 0, .invokeinterface 1763 2, .ifCond .eq 15, .iload 2, .ifCond .eq 14, .aload 0, .invokeinterface 1765 1, .lload 4, .lcmp, .ifCond .le 15, .goto_w 14]
def b1762_14 : List Instr := [.sipush 1, .istore 2, .aload 0, .invokeinterface 1765 1, .lstore 4, .aload 0, .invokeinterface 1766 1, .goto_w 15]
def b1762_15 : List Instr := [.aload 0, .sipush 1, .invokeinterface 1763 2, .istore 3, .aload 0, .iload 6, .invokeinterface 1767 2, .goto 6]
def b1762_16 : List Instr := [.iload 2, .ifCond .eq 17, .aload 0, .invokeinterface 1768 1, .goto 18]
def b1762_17 : List Instr := [.aload 0, .invokeinterface 1769 1, .goto_w 18]
def b1762_18 : List Instr := [.aload 0, .sipush 1, .putfield 27914, .iload 6, .jsr 0]
/-- TimberHouseModel$Rips.prices(I)I -/
def m1762 : pm_M := (fun j => [b1762_0, b1762_1, b1762_2, b1762_3, b1762_4, b1762_5, b1762_6, b1762_7, b1762_8, b1762_9, b1762_10, b1762_11, b1762_12, b1762_13, b1762_14, b1762_15, b1762_16, b1762_17, b1762_18].getD j [], fun _ => [], 27, 10)
def b1763_0 : List Instr := [.sipush 1, .istore 2, .sipush 0, .istore 3, .goto_w 1]
def b1763_1 : List Instr := [.iload 3, .aload 0, .getfield 27736, .if_icmp .ge 8, .iload 1, .ifCond .eq 2, .aload 0, .getfield 27795, .iload 3, .laload, .bipush 0, .lcmp, .ifCond .eq 2, .aload 0, .iload 3, .invokeinterface 1764 2, .aload 0, .getfield 27787, .iload 3, .iaload, .if_icmp .ne 3, .goto_w 2]
def b1763_2 : List Instr := [.sipush 1, .goto 4]
def b1763_3 : List Instr := [.sipush 0, .goto_w 4]
def b1763_4 : List Instr := [.istore 4, .iload 2, .ifCond .eq 6, .iload 4, .ifCond .eq 6, .aload 0, .getfield 27787, .iload 3, .iaload, .ifCond .lt 5, .aload 0, .iload 3, .invokeinterface 1764 2, .aload 0, .getfield 27787, .iload 3, .iaload, .if_icmp .gt 6, .goto_w 5]
def b1763_5 : List Instr := [.sipush 1, .goto 7]
def b1763_6 : List Instr := [.sipush 0, .goto_w 7]
def b1763_7 : List Instr := [.istore 2, .iinc 3 1, .goto 1]
def b1763_8 : List Instr := [.iload 2, .jsr 2]
/-- TimberHouseModel$Rips.allHold(Z)Z -/
def m1763 : pm_M := (fun j => [b1763_0, b1763_1, b1763_2, b1763_3, b1763_4, b1763_5, b1763_6, b1763_7, b1763_8].getD j [], fun _ => [], 27, 5)
def b1764_0 : List Instr := [.sipush 0, .istore 2, .sipush 0, .istore 3, .goto_w 1]
def b1764_1 : List Instr := [.iload 3, .aload 0, .getfield 27936, .if_icmp .ge 4, .aload 0, .getfield 27979, .iload 3, .iaload, .iload 1, .if_icmp .ne 2, .iload 2, .sipush 1, .iadd, .goto 3]
def b1764_2 : List Instr := [.iload 2, .goto_w 3]
def b1764_3 : List Instr := [.istore 2, .iinc 3 1, .goto 1]
def b1764_4 : List Instr := [.iload 2, .jsr 0]
/-- TimberHouseModel$Rips.countOf(I)I -/
def m1764 : pm_M := (fun j => [b1764_0, b1764_1, b1764_2, b1764_3, b1764_4].getD j [], fun _ => [], 27, 4)
def b1765_0 : List Instr := [.bipush 0, .lstore 1, .sipush 0, .istore 3, .goto_w 1]
def b1765_1 : List Instr := [.iload 3, .aload 0, .getfield 27936, .if_icmp .ge 2, .lload 1, .aload 0, .getfield 27771, .aload 0, .getfield 27979, .iload 3, .iaload, .laload, .aload 0, .getfield 27963, .iload 3, .iaload, .i2l, .lmul, .ladd, .lstore 1, .iinc 3 1, .goto 1]
def b1765_2 : List Instr := [.lload 1, .lreturn]
/-- TimberHouseModel$Rips.trueWorth()J -/
def m1765 : pm_M := (fun j => [b1765_0, b1765_1, b1765_2].getD j [], fun _ => [], 27, 4)
def b1766_0 : List Instr := [.aload 0, .aload 0, .getfield 27936, .putfield 27984, .sipush 0, .istore 1, .goto_w 1]
def b1766_1 : List Instr := [.iload 1, .aload 0, .getfield 27936, .if_icmp .ge 2, .aload 0, .getfield 27995, .sipush 5, .iload 1, .imul, .aload 0, .getfield 27947, .iload 1, .iaload, .iastore, .aload 0, .getfield 27995, .sipush 5, .iload 1, .imul, .sipush 1, .iadd, .aload 0, .getfield 27955, .iload 1, .iaload, .iastore, .aload 0, .getfield 27995, .sipush 5, .iload 1, .imul, .sipush 2, .iadd, .aload 0, .getfield 27963, .iload 1, .iaload, .iastore, .aload 0, .getfield 27995, .sipush 5, .iload 1, .imul, .sipush 3, .iadd, .aload 0, .getfield 27971, .iload 1, .iaload, .iastore, .aload 0, .getfield 27995, .sipush 5, .iload 1, .imul, .sipush 4, .iadd, .aload 0, .getfield 27979, .iload 1, .iaload, .iastore, .iinc 1 1, .goto 1]
def b1766_2 : List Instr := [.return_]
/-- TimberHouseModel$Rips.keep()V -/
def m1766 : pm_M := (fun j => [b1766_0, b1766_1, b1766_2].getD j [], fun _ => [], 27, 2)
def b1767_0 : List Instr := [.sipush 256, .iload 1, .idiv, .sipush 1, .if_icmp .le 1, .sipush 256, .iload 1, .idiv, .i2l, .goto 2]
def b1767_1 : List Instr := [.bipush 1, .goto_w 2]
def b1767_2 : List Instr := [.lstore 2, .sipush 0, .istore 4, .goto_w 3]
def b1767_3 : List Instr := [.iload 4, .aload 0, .getfield 27736, .if_icmp .ge 7, .aload 0, .getfield 27803, .iload 4, .aload 0, .getfield 27795, .iload 4, .laload, .lastore, .aload 0, .getfield 27795, .iload 4, .laload, .aload 0, .iload 4, .invokeinterface 1764 2, .aload 0, .getfield 27787, .iload 4, .iaload, .isub, .i2l, .lload 2, .lmul, .ladd, .lstore 5, .aload 0, .getfield 27795, .iload 4, .aload 0, .getfield 27787, .iload 4, .iaload, .ifCond .lt 4, .lload 5, .bipush 0, .lcmp, .ifCond .ge 5, .goto_w 4]
def b1767_4 : List Instr := [.bipush 0, .goto 6]
def b1767_5 : List Instr := [.lload 5, .goto_w 6]
def b1767_6 : List Instr := [.lastore, .iinc 4 1, .goto 3]
def b1767_7 : List Instr := [.return_]
/-- TimberHouseModel$Rips.setPrices(I)V -/
def m1767 : pm_M := (fun j => [b1767_0, b1767_1, b1767_2, b1767_3, b1767_4, b1767_5, b1767_6, b1767_7].getD j [], fun _ => [], 27, 7)
def b1768_0 : List Instr := [.aload 0, .aload 0, .getfield 27984, .putfield 27936, .sipush 0, .istore 1, .goto_w 1]
def b1768_1 : List Instr := [.iload 1, .aload 0, .getfield 27936, .if_icmp .ge 2, .aload 0, .getfield 27947, .iload 1, .aload 0, .getfield 27995, .sipush 5, .iload 1, .imul, .iaload, .iastore, .aload 0, .getfield 27955, .iload 1, .aload 0, .getfield 27995, .sipush 5, .iload 1, .imul, .sipush 1, .iadd, .iaload, .iastore, .aload 0, .getfield 27963, .iload 1, .aload 0, .getfield 27995, .sipush 5, .iload 1, .imul, .sipush 2, .iadd, .iaload, .iastore, .aload 0, .getfield 27971, .iload 1, .aload 0, .getfield 27995, .sipush 5, .iload 1, .imul, .sipush 3, .iadd, .iaload, .iastore, .aload 0, .getfield 27979, .iload 1, .aload 0, .getfield 27995, .sipush 5, .iload 1, .imul, .sipush 4, .iadd, .iaload, .iastore, .iinc 1 1, .goto 1]
def b1768_2 : List Instr := [.return_]
/-- TimberHouseModel$Rips.bringBack()V -/
def m1768 : pm_M := (fun j => [b1768_0, b1768_1, b1768_2].getD j [], fun _ => [], 27, 2)
def b1769_0 : List Instr := [.aload 0, .getfield 27936, .sipush 1, .isub, .istore 1, .goto_w 1]
def b1769_1 : List Instr := [.iload 1, .ifCond .lt 3, .aload 0, .getfield 27979, .iload 1, .iaload, .istore 2, .aload 0, .getfield 27787, .iload 2, .iaload, .ifCond .lt 2, .aload 0, .iload 2, .invokeinterface 1764 2, .aload 0, .getfield 27787, .iload 2, .iaload, .if_icmp .le 2, .aload 0, .iload 1, .invokeinterface 1770 2, .goto_w 2]
def b1769_2 : List Instr := [.iinc 1 (-1), .goto 1]
def b1769_3 : List Instr := [.return_]
/-- TimberHouseModel$Rips.dropTooMany()V -/
def m1769 : pm_M := (fun j => [b1769_0, b1769_1, b1769_2, b1769_3].getD j [], fun _ => [], 27, 3)
def b1770_0 : List Instr := [.iload 1, .sipush 1, .iadd, .istore 2, .goto_w 1]
def b1770_1 : List Instr := [.iload 2, .aload 0, .getfield 27936, .if_icmp .ge 2, .aload 0, .getfield 27947, .iload 2, .sipush 1, .isub, .aload 0, .getfield 27947, .iload 2, .iaload, .iastore, .aload 0, .getfield 27955, .iload 2, .sipush 1, .isub, .aload 0, .getfield 27955, .iload 2, .iaload, .iastore, .aload 0, .getfield 27963, .iload 2, .sipush 1, .isub, .aload 0, .getfield 27963, .iload 2, .iaload, .iastore, .aload 0, .getfield 27971, .iload 2, .sipush 1, .isub, .aload 0, .getfield 27971, .iload 2, .iaload, .iastore, .aload 0, .getfield 27979, .iload 2, .sipush 1, .isub, .aload 0, .getfield 27979, .iload 2, .iaload, .iastore, .iinc 2 1, .goto 1]
def b1770_2 : List Instr := [.aload 0, .dup, .getfield 27936, .sipush 1, .isub, .putfield 27936, .return_]
/-- TimberHouseModel$Rips.drop(I)V -/
def m1770 : pm_M := (fun j => [b1770_0, b1770_1, b1770_2].getD j [], fun _ => [], 27, 3)
def b1771_0 : List Instr := [.aload 0, .invokeinterface 1772 1, .ifCond .eq 1, .bipush 0, .goto 2]
def b1771_1 : List Instr := [.aload 0, .invokeinterface 1765 1, .goto_w 2]
def b1771_2 : List Instr := [.lreturn]
/-- TimberHouseModel$Rips.worth()J -/
def m1771 : pm_M := (fun j => [b1771_0, b1771_1, b1771_2].getD j [], fun _ => [], 27, 1)
def b1772_0 : List Instr := [.aload 0, .aload 0, .getfield 27914, .ifCond .eq 1, .sipush 0, .goto 2]
def b1772_1 : List Instr := [.sipush 1, .goto_w 2]
def b1772_2 : List Instr := [.putfield 27648, .aload 0, .getfield 27648, .ifCond .le 3, .sipush 1, .goto 4]
def b1772_3 : List Instr := [.sipush 0, .goto_w 4]
def b1772_4 : List Instr := [.jsr 2]
/-- TimberHouseModel$Rips.none()Z -/
def m1772 : pm_M := (fun j => [b1772_0, b1772_1, b1772_2, b1772_3, b1772_4].getD j [], fun _ => [], 27, 1)
def b1773_0 : List Instr := [.aload 0, .invokeinterface 1772 1, .ifCond .eq 1, .sipush 0, .jsr 0]
def b1773_1 : List Instr := [.aload 0, .iload 1, .sipush (-1), .if_icmp .lt 2, .iload 1, .aload 0, .getfield 27936, .if_icmp .lt 3, .goto_w 2]
def b1773_2 : List Instr := [.sipush 2, .goto 5]
def b1773_3 : List Instr := [.iload 2, .i2l, .bipush 0, .bipush 5, .invokeinterface 1731 3, .ifCond .eq 4, .sipush 0, .goto 5]
def b1773_4 : List Instr := [.sipush 3, .goto_w 5]
def b1773_5 : List Instr := [.putfield 27648, .aload 0, .getfield 27648, .ifCond .gt 6, .iload 1, .sipush (-1), .if_icmp .ne 9, .goto_w 6]
def b1773_6 : List Instr := [.aload 0, .getfield 27648, .ifCond .le 7, .sipush 0, .goto 8]
def b1773_7 : List Instr := [.aload 0, .getfield 27936, .goto_w 8]
def b1773_8 : List Instr := [.jsr 0]
def b1773_9 : List Instr := [.iload 2, .ifCond .ne 10, .aload 0, .getfield 27947, .iload 1, .iaload, .goto 15]
def b1773_10 : List Instr := [.iload 2, .sipush 1, .if_icmp .ne 11, .aload 0, .getfield 27955, .iload 1, .iaload, .goto 15]
def b1773_11 : List Instr := [.iload 2, .sipush 2, .if_icmp .ne 12, .aload 0, .getfield 27963, .iload 1, .iaload, .goto 15]
def b1773_12 : List Instr := [.iload 2, .sipush 3, .if_icmp .ne 13, .aload 0, .getfield 27971, .iload 1, .iaload, .goto 15]
def b1773_13 : List Instr := [.iload 2, .sipush 4, .if_icmp .ne 14, .aload 0, .getfield 27979, .iload 1, .iaload, .goto 15]
def b1773_14 : List Instr := [.aload 0, .getfield 27771, .aload 0, .getfield 27979, .iload 1, .iaload, .laload, .aload 0, .getfield 27963, .iload 1, .iaload, .i2l, .lmul, .l2i, .goto_w 15]
def b1773_15 : List Instr := [.jsr 0]
/-- TimberHouseModel$Rips.at(II)I -/
def m1773 : pm_M := (fun j => [b1773_0, b1773_1, b1773_2, b1773_3, b1773_4, b1773_5, b1773_6, b1773_7, b1773_8, b1773_9, b1773_10, b1773_11, b1773_12, b1773_13, b1773_14, b1773_15].getD j [], fun _ => [], 27, 3)
def b1774_0 : List Instr := [.aload 0, .invokeinterface 1772 1, .ifCond .eq 1, .sipush 0, .jsr 2]
def b1774_1 : List Instr := [.aload 0, .iload 1, .ifCond .lt 2, .iload 1, .aload 0, .getfield 27936, .if_icmp .lt 3, .goto_w 2]
def b1774_2 : List Instr := [.sipush 2, .goto 4]
def b1774_3 : List Instr := [.sipush 0, .goto_w 4]
def b1774_4 : List Instr := [.putfield 27648, .aload 0, .getfield 27648, .ifCond .ne 5, .sipush 1, .goto 6]
def b1774_5 : List Instr := [.sipush 0, .goto_w 6]
def b1774_6 : List Instr := [.istore 2, .sipush 0, .istore 3, .goto_w 7]
def b1774_7 : List Instr := [.iload 3, .aload 0, .getfield 27680, .if_icmp .ge 10, .iload 2, .ifCond .eq 10, .aload 0, .iload 3, .aload 0, .getfield 27947, .iload 1, .iaload, .aload 0, .getfield 27947, .iload 1, .iaload, .aload 0, .getfield 27963, .iload 1, .iaload, .iadd, .aload 0, .getfield 27955, .iload 1, .iaload, .aload 0, .getfield 27955, .iload 1, .iaload, .aload 0, .getfield 27971, .iload 1, .iaload, .iadd, .invokeinterface 1748 6, .ifCond .ne 8, .sipush 1, .goto 9]
def b1774_8 : List Instr := [.sipush 0, .goto_w 9]
def b1774_9 : List Instr := [.istore 2, .iinc 3 1, .goto 7]
def b1774_10 : List Instr := [.iload 2, .jsr 2]
/-- TimberHouseModel$Rips.clear2(I)Z -/
def m1774 : pm_M := (fun j => [b1774_0, b1774_1, b1774_2, b1774_3, b1774_4, b1774_5, b1774_6, b1774_7, b1774_8, b1774_9, b1774_10].getD j [], fun _ => [], 27, 4)
def b1775_0 : List Instr := [.aload 0, .invokeinterface 1772 1, .ifCond .eq 1, .bipush 0, .goto 2]
def b1775_1 : List Instr := [.aload 0, .getfield 28001, .goto_w 2]
def b1775_2 : List Instr := [.lreturn]
/-- TimberHouseModel$Rips.bound()J -/
def m1775 : pm_M := (fun j => [b1775_0, b1775_1, b1775_2].getD j [], fun _ => [], 27, 1)
def b1776_0 : List Instr := [.aload 0, .invokeinterface 1772 1, .ifCond .eq 1, .bipush 0, .lreturn]
def b1776_1 : List Instr := [.aload 0, .iload 1, .ifCond .lt 2, .iload 1, .aload 0, .getfield 27736, .if_icmp .ge 2, .iload 2, .ifCond .lt 2, .iload 2, .sipush 2, .if_icmp .le 3, .goto_w 2]
def b1776_2 : List Instr := [.sipush 2, .goto 4]
def b1776_3 : List Instr := [.sipush 0, .goto_w 4]
def b1776_4 : List Instr := [.putfield 27648, .aload 0, .getfield 27648, .ifCond .le 5, .bipush 0, .goto 8]
def b1776_5 : List Instr := [.iload 2, .ifCond .ne 6, .aload 0, .getfield 27803, .iload 1, .laload, .goto 8]
def b1776_6 : List Instr := [.iload 2, .sipush 1, .if_icmp .ne 7, .aload 0, .iload 1, .invokeinterface 1764 2, .i2l, .goto 8]
def b1776_7 : List Instr := [.aload 0, .getfield 27787, .iload 1, .iaload, .i2l, .goto_w 8]
def b1776_8 : List Instr := [.lreturn]
/-- TimberHouseModel$Rips.price(II)J -/
def m1776 : pm_M := (fun j => [b1776_0, b1776_1, b1776_2, b1776_3, b1776_4, b1776_5, b1776_6, b1776_7, b1776_8].getD j [], fun _ => [], 27, 3)
def b1777_0 : List Instr := [.aload 0, .invokeinterface 1772 1, .ifCond .eq 1, .sipush 0, .jsr 0]
def b1777_1 : List Instr := [.aload 0, .invokeinterface 1778 1, .sipush 0, .istore 3, .sipush 0, .istore 4, .sipush 0, .istore 5, .sipush 0, .istore 6, .goto_w 2]
def b1777_2 : List Instr := [.iload 6, .aload 0, .getfield 27672, .if_icmp .ge 10, .sipush 0, .istore 7, .goto_w 3]
def b1777_3 : List Instr := [.iload 7, .aload 0, .getfield 27664, .if_icmp .ge 9, .aload 0, .iload 7, .iload 6, .invokeinterface 1779 3, .ifCond .eq 8, .iload 3, .iload 1, .if_icmp .ne 4, .iload 7, .goto 5]
def b1777_4 : List Instr := [.iload 4, .goto_w 5]
def b1777_5 : List Instr := [.istore 4, .iload 3, .iload 1, .if_icmp .ne 6, .iload 6, .goto 7]
def b1777_6 : List Instr := [.iload 5, .goto_w 7]
def b1777_7 : List Instr := [.istore 5, .iinc 3 1, .goto_w 8]
def b1777_8 : List Instr := [.iinc 7 1, .goto 3]
def b1777_9 : List Instr := [.iinc 6 1, .goto 2]
def b1777_10 : List Instr := [.aload 0, .iload 1, .sipush (-1), .if_icmp .lt 11, .iload 1, .iload 3, .if_icmp .lt 12, .goto_w 11]
def b1777_11 : List Instr := [.sipush 2, .goto 14]
def b1777_12 : List Instr := [.iload 2, .i2l, .bipush 0, .bipush 2, .invokeinterface 1731 3, .ifCond .eq 13, .sipush 0, .goto 14]
def b1777_13 : List Instr := [.sipush 3, .goto_w 14]
def b1777_14 : List Instr := [.putfield 27648, .aload 0, .getfield 27648, .ifCond .gt 15, .iload 1, .sipush (-1), .if_icmp .ne 18, .goto_w 15]
def b1777_15 : List Instr := [.aload 0, .getfield 27648, .ifCond .le 16, .sipush 0, .goto 17]
def b1777_16 : List Instr := [.iload 3, .goto_w 17]
def b1777_17 : List Instr := [.jsr 0]
def b1777_18 : List Instr := [.iload 4, .istore 6, .goto_w 19]
def b1777_19 : List Instr := [.iload 6, .aload 0, .getfield 27664, .if_icmp .ge 20, .aload 0, .getfield 28011, .sipush 24, .iload 5, .imul, .iload 6, .iadd, .baload, .ifCond .ne 20, .iinc 6 1, .goto 19]
def b1777_20 : List Instr := [.iload 2, .ifCond .ne 21, .iload 4, .goto 23]
def b1777_21 : List Instr := [.iload 2, .sipush 1, .if_icmp .ne 22, .iload 5, .goto 23]
def b1777_22 : List Instr := [.iload 6, .iload 4, .isub, .goto_w 23]
def b1777_23 : List Instr := [.jsr 0]
/-- TimberHouseModel$Rips.salvage(II)I -/
def m1777 : pm_M := (fun j => [b1777_0, b1777_1, b1777_2, b1777_3, b1777_4, b1777_5, b1777_6, b1777_7, b1777_8, b1777_9, b1777_10, b1777_11, b1777_12, b1777_13, b1777_14, b1777_15, b1777_16, b1777_17, b1777_18, b1777_19, b1777_20, b1777_21, b1777_22, b1777_23].getD j [], fun _ => [], 27, 8)
def b1778_0 : List Instr := [.sipush 0, .istore 1, .goto_w 1]
def b1778_1 : List Instr := [.iload 1, .sipush 240, .if_icmp .ge 2, .aload 0, .getfield 28011, .iload 1, .sipush 0, .bastore, .iinc 1 1, .goto 1]
def b1778_2 : List Instr := [.sipush 0, .istore 1, .goto_w 3]
def b1778_3 : List Instr := [.iload 1, .aload 0, .getfield 27936, .if_icmp .ge 8, .aload 0, .getfield 27947, .iload 1, .iaload, .istore 2, .goto_w 4]
def b1778_4 : List Instr := [.iload 2, .aload 0, .getfield 27947, .iload 1, .iaload, .aload 0, .getfield 27963, .iload 1, .iaload, .iadd, .if_icmp .ge 7, .aload 0, .getfield 27955, .iload 1, .iaload, .istore 3, .goto_w 5]
def b1778_5 : List Instr := [.iload 3, .aload 0, .getfield 27955, .iload 1, .iaload, .aload 0, .getfield 27971, .iload 1, .iaload, .iadd, .if_icmp .ge 6, .aload 0, .getfield 28011, .sipush 24, .iload 3, .imul, .iload 2, .iadd, .sipush 1, .bastore, .iinc 3 1, .goto 5]
def b1778_6 : List Instr := [.iinc 2 1, .goto 4]
def b1778_7 : List Instr := [.iinc 1 1, .goto 3]
def b1778_8 : List Instr := [.return_]
/-- TimberHouseModel$Rips.cover()V -/
def m1778 : pm_M := (fun j => [b1778_0, b1778_1, b1778_2, b1778_3, b1778_4, b1778_5, b1778_6, b1778_7, b1778_8].getD j [], fun _ => [], 27, 4)
def b1779_0 : List Instr := [.aload 0, .getfield 28011, .sipush 24, .iload 2, .imul, .iload 1, .iadd, .baload, .ifCond .ne 2, .iload 1, .ifCond .eq 1, .aload 0, .getfield 28011, .sipush 24, .iload 2, .imul, .iload 1, .iadd, .sipush 1, .isub, .baload, .ifCond .eq 2, .goto_w 1]
def b1779_1 : List Instr := [.sipush 1, .goto 3]
def b1779_2 : List Instr := [.sipush 0, .goto_w 3]
def b1779_3 : List Instr := [.jsr 2]
/-- TimberHouseModel$Rips.begins(II)Z -/
def m1779 : pm_M := (fun j => [b1779_0, b1779_1, b1779_2, b1779_3].getD j [], fun _ => [], 27, 3)
def b1780_0 : List Instr := [.aload 0, .invokeinterface 1772 1, .ifCond .eq 1, .sipush 0, .jsr 0]
def b1780_1 : List Instr := [.aload 0, .iload 1, .i2l, .bipush 1, .bipush 100, .invokeinterface 1731 3, .ifCond .eq 2, .iload 2, .ifCond .lt 2, .sipush 0, .goto 3]
def b1780_2 : List Instr := [.sipush 2, .goto_w 3]
def b1780_3 : List Instr := [.putfield 27648, .aload 0, .getfield 27648, .ifCond .le 4, .sipush 0, .jsr 0]
def b1780_4 : List Instr := [.aload 0, .getfield 27936, .istore 3, .goto_w 5]
def b1780_5 : List Instr := [.iload 3, .ifCond .lt 12, .sipush 0, .istore 4, .goto_w 6]
def b1780_6 : List Instr := [.iload 4, .iload 1, .if_icmp .gt 11, .iload 4, .ifCond .ne 7, .sipush 0, .goto 9]
def b1780_7 : List Instr := [.iload 3, .aload 0, .getfield 27936, .if_icmp .ne 8, .sipush 1000, .goto 9]
def b1780_8 : List Instr := [.aload 0, .getfield 28019, .sipush 101, .iload 3, .sipush 1, .iadd, .imul, .iload 4, .iadd, .iaload, .goto_w 9]
def b1780_9 : List Instr := [.istore 5, .iload 3, .aload 0, .getfield 27936, .if_icmp .ge 10, .iload 4, .aload 0, .getfield 27971, .iload 3, .iaload, .if_icmp .lt 10, .aload 0, .getfield 28019, .sipush 101, .iload 3, .sipush 1, .iadd, .imul, .iload 4, .iadd, .aload 0, .getfield 27971, .iload 3, .iaload, .isub, .iaload, .sipush 1, .iadd, .iload 5, .if_icmp .ge 10, .aload 0, .getfield 28019, .sipush 101, .iload 3, .sipush 1, .iadd, .imul, .iload 4, .iadd, .aload 0, .getfield 27971, .iload 3, .iaload, .isub, .iaload, .sipush 1, .iadd, .istore 5, .goto_w 10]
def b1780_10 : List Instr := [.aload 0, .getfield 28019, .sipush 101, .iload 3, .imul, .iload 4, .iadd, .iload 5, .iastore, .iinc 4 1, .goto 6]
def b1780_11 : List Instr := [.iinc 3 (-1), .goto 5]
def b1780_12 : List Instr := [.aload 0, .getfield 28019, .iload 1, .iaload, .sipush 1000, .if_icmp .lt 13, .sipush (-1), .jsr 0]
def b1780_13 : List Instr := [.iload 1, .istore 3, .sipush 0, .istore 4, .sipush 0, .istore 5, .goto_w 14]
def b1780_14 : List Instr := [.iload 5, .aload 0, .getfield 27936, .if_icmp .ge 17, .iload 3, .aload 0, .getfield 27971, .iload 5, .iaload, .if_icmp .lt 16, .aload 0, .getfield 28019, .sipush 101, .iload 5, .sipush 1, .iadd, .imul, .iload 3, .iadd, .aload 0, .getfield 27971, .iload 5, .iaload, .isub, .iaload, .sipush 1, .iadd, .aload 0, .getfield 28019, .sipush 101, .iload 5, .imul, .iload 3, .iadd, .iaload, .if_icmp .ne 16, .iload 4, .iload 2, .if_icmp .ne 15, .iload 5, .jsr 0]
def b1780_15 : List Instr := [.iinc 4 1, .iload 3, .aload 0, .getfield 27971, .iload 5, .iaload, .isub, .istore 3, .goto_w 16]
def b1780_16 : List Instr := [.iinc 5 1, .goto 14]
def b1780_17 : List Instr := [.sipush (-1), .jsr 0]
/-- TimberHouseModel$Rips.panel(II)I -/
def m1780 : pm_M := (fun j => [b1780_0, b1780_1, b1780_2, b1780_3, b1780_4, b1780_5, b1780_6, b1780_7, b1780_8, b1780_9, b1780_10, b1780_11, b1780_12, b1780_13, b1780_14, b1780_15, b1780_16, b1780_17].getD j [], fun _ => [], 27, 6)
def b1781_0 : List Instr := [.aload 0, .invokeinterface 1772 1, .ifCond .ne 1, .aload 0, .invokeinterface 1765 1, .aload 0, .getfield 28001, .lcmp, .ifCond .ne 1, .sipush 1, .goto 2]
def b1781_1 : List Instr := [.sipush 0, .goto_w 2]
def b1781_2 : List Instr := [.jsr 2]
/-- TimberHouseModel$Rips.greatest()Z -/
def m1781 : pm_M := (fun j => [b1781_0, b1781_1, b1781_2].getD j [], fun _ => [], 27, 1)
def b1792_0 : List Instr := [.aload 0, .f2i, .aload 0, .sipush 24, .newarray .int, .putfield 28707, .aload 0, .sipush 24, .newarray .int, .putfield 28715, .aload 0, .sipush 6, .newarray .int, .putfield 28731, .aload 0, .sipush 6, .newarray .long, .putfield 28739, .aload 0, .sipush 8, .newarray .int, .putfield 28755, .aload 0, .sipush 8, .newarray .int, .putfield 28763, .aload 0, .sipush 8, .newarray .boolean, .putfield 28771, .aload 0, .sipush 24, .newarray .int, .putfield 28779, .aload 0, .sipush 1525, .newarray .long, .putfield 28787, .aload 0, .sipush 1525, .newarray .int, .putfield 28795, .aload 0, .sipush 1525, .newarray .int, .putfield 28803, .aload 0, .sipush 24, .newarray .int, .putfield 28843, .aload 0, .sipush 1440, .newarray .int, .putfield 28859, .aload 0, .sipush 1440, .newarray .int, .putfield 28867, .aload 0, .sipush 1440, .newarray .int, .putfield 28875, .aload 0, .sipush 1440, .newarray .int, .putfield 28883, .aload 0, .sipush 1440, .newarray .int, .putfield 28891, .aload 0, .sipush 32, .newarray .int, .putfield 28907, .aload 0, .sipush 32, .newarray .int, .putfield 28915, .aload 0, .sipush 32, .newarray .int, .putfield 28923, .aload 0, .sipush 3, .newarray .int, .putfield 28955, .aload 0, .iload 1, .invokeinterface 1793 1, .putfield 28680, .aload 0, .iload 2, .invokeinterface 1793 1, .aload 0, .getfield 28680, .iadd, .sipush 1, .isub, .aload 0, .getfield 28680, .idiv, .putfield 28688, .return_]
/-- TimberHouseModel$Fingers.<init>(II)V -/
def m1792 : pm_M := (fun j => [b1792_0].getD j [], fun _ => [], 28, 3)
def b1793_0 : List Instr := [.iload 0, .sipush 1, .if_icmp .ge 1, .sipush 1, .goto 3]
def b1793_1 : List Instr := [.iload 0, .sipush 65536, .if_icmp .le 2, .sipush 65536, .goto 3]
def b1793_2 : List Instr := [.iload 0, .goto_w 3]
def b1793_3 : List Instr := [.jsr 0]
/-- TimberHouseModel$Fingers.nearest(I)I -/
def m1793 : pm_M := (fun j => [b1793_0, b1793_1, b1793_2, b1793_3].getD j [], fun _ => [], 0, 1)
def b1794_0 : List Instr := [.iload 1, .sipush 1, .if_icmp .lt 1, .iload 1, .aload 0, .getfield 28680, .idiv, .sipush 60, .if_icmp .gt 1, .iload 2, .i2l, .bipush 0, .bipush 7, .invokeinterface 1795 3, .ifCond .eq 1, .sipush 1, .goto 2]
def b1794_1 : List Instr := [.sipush 0, .goto_w 2]
def b1794_2 : List Instr := [.istore 3, .aload 0, .aload 0, .getfield 28696, .sipush 24, .if_icmp .ne 3, .sipush 1, .goto 5]
def b1794_3 : List Instr := [.iload 3, .ifCond .eq 4, .sipush 0, .goto 5]
def b1794_4 : List Instr := [.sipush 2, .goto_w 5]
def b1794_5 : List Instr := [.putfield 28672, .aload 0, .getfield 28672, .ifCond .le 6, .sipush 0, .jsr 0]
def b1794_6 : List Instr := [.aload 0, .getfield 28707, .aload 0, .getfield 28696, .iload 1, .aload 0, .getfield 28680, .idiv, .iastore, .aload 0, .getfield 28715, .aload 0, .getfield 28696, .iload 2, .iastore, .aload 0, .dup, .getfield 28696, .sipush 1, .iadd, .putfield 28696, .aload 0, .sipush 0, .putfield 28834, .aload 0, .getfield 28696, .sipush 1, .isub, .jsr 0]
/-- TimberHouseModel$Fingers.piece(II)I -/
def m1794 : pm_M := (fun j => [b1794_0, b1794_1, b1794_2, b1794_3, b1794_4, b1794_5, b1794_6].getD j [], fun _ => [], 28, 4)
def b1795_0 : List Instr := [.lload 0, .lload 2, .lcmp, .ifCond .lt 1, .lload 0, .lload 4, .lcmp, .ifCond .gt 1, .sipush 1, .goto 2]
def b1795_1 : List Instr := [.sipush 0, .goto_w 2]
def b1795_2 : List Instr := [.jsr 2]
/-- TimberHouseModel$Fingers.isIn(JJJ)Z -/
def m1795 : pm_M := (fun j => [b1795_0, b1795_1, b1795_2].getD j [], fun _ => [], 0, 6)
def b1796_0 : List Instr := [.aload 0, .getfield 28672, .jsr 0]
/-- TimberHouseModel$Fingers.thrown()I -/
def m1796 : pm_M := (fun j => [b1796_0].getD j [], fun _ => [], 28, 1)
def b1797_0 : List Instr := [.aload 0, .iload 1, .aload 0, .getfield 28680, .if_icmp .lt 1, .iload 1, .aload 0, .getfield 28680, .idiv, .sipush 120, .if_icmp .gt 1, .lload 2, .bipush 1, .bipush 100000, .invokeinterface 1795 3, .ifCond .eq 1, .sipush 0, .goto 2]
def b1797_1 : List Instr := [.sipush 1, .goto_w 2]
def b1797_2 : List Instr := [.putfield 28672, .aload 0, .getfield 28672, .ifCond .gt 3, .aload 0, .getfield 28720, .sipush 6, .if_icmp .ne 4, .goto_w 3]
def b1797_3 : List Instr := [.sipush 0, .jsr 2]
def b1797_4 : List Instr := [.aload 0, .getfield 28731, .aload 0, .getfield 28720, .iload 1, .aload 0, .getfield 28680, .idiv, .iastore, .aload 0, .getfield 28739, .aload 0, .getfield 28720, .lload 2, .lastore, .aload 0, .dup, .getfield 28720, .sipush 1, .iadd, .putfield 28720, .aload 0, .sipush 0, .putfield 28834, .sipush 1, .jsr 2]
/-- TimberHouseModel$Fingers.want(IJ)Z -/
def m1797 : pm_M := (fun j => [b1797_0, b1797_1, b1797_2, b1797_3, b1797_4].getD j [], fun _ => [], 28, 4)
def b1798_0 : List Instr := [.aload 0, .iload 1, .ifCond .lt 1, .iload 2, .iload 1, .if_icmp .le 1, .sipush 0, .goto 2]
def b1798_1 : List Instr := [.sipush 1, .goto_w 2]
def b1798_2 : List Instr := [.putfield 28672, .aload 0, .getfield 28672, .ifCond .gt 3, .aload 0, .getfield 28744, .sipush 8, .if_icmp .ne 4, .goto_w 3]
def b1798_3 : List Instr := [.sipush 0, .jsr 2]
def b1798_4 : List Instr := [.aload 0, .getfield 28755, .aload 0, .getfield 28744, .iload 1, .iastore, .aload 0, .getfield 28763, .aload 0, .getfield 28744, .iload 2, .iastore, .aload 0, .dup, .getfield 28744, .sipush 1, .iadd, .putfield 28744, .aload 0, .sipush 0, .putfield 28834, .sipush 1, .jsr 2]
/-- TimberHouseModel$Fingers.bar(II)Z -/
def m1798 : pm_M := (fun j => [b1798_0, b1798_1, b1798_2, b1798_3, b1798_4].getD j [], fun _ => [], 28, 3)
def b1799_0 : List Instr := [.aload 0, .iload 1, .i2l, .bipush 0, .bipush 7, .invokeinterface 1795 3, .ifCond .eq 1, .sipush 0, .goto 2]
def b1799_1 : List Instr := [.sipush 1, .goto_w 2]
def b1799_2 : List Instr := [.putfield 28672, .aload 0, .getfield 28672, .ifCond .gt 3, .aload 0, .getfield 28771, .iload 1, .baload, .iload 2, .if_icmp .ne 4, .goto_w 3]
def b1799_3 : List Instr := [.sipush 0, .jsr 2]
def b1799_4 : List Instr := [.aload 0, .getfield 28771, .iload 1, .iload 2, .bastore, .aload 0, .sipush 0, .putfield 28834, .sipush 1, .jsr 2]
/-- TimberHouseModel$Fingers.group(IZ)Z -/
def m1799 : pm_M := (fun j => [b1799_0, b1799_1, b1799_2, b1799_3, b1799_4].getD j [], fun _ => [], 28, 3)
def b1800_0 : List Instr := [.aload 0, .sipush 0, .putfield 28672, .aload 0, .invokeinterface 1801 1, .aload 0, .invokeinterface 1802 1, .aload 0, .invokeinterface 1808 1, .jsr 0]
/-- TimberHouseModel$Fingers.run()I -/
def m1800 : pm_M := (fun j => [b1800_0].getD j [], fun _ => [], 28, 1)
def b1801_0 : List Instr := [.sipush 0, .istore 1, .goto_w 1]
def b1801_1 : List Instr := [.iload 1, .aload 0, .getfield 28696, .if_icmp .ge 2, .aload 0, .getfield 28779, .iload 1, .iload 1, .iastore, .iinc 1 1, .goto 1]
def b1801_2 : List Instr := [.return_]
/-- TimberHouseModel$Fingers.asTold()V -/
def m1801 : pm_M := (fun j => [b1801_0, b1801_1, b1801_2].getD j [], fun _ => [], 28, 2)
def b1802_0 : List Instr := [.aload 0, .sipush 61, .aload 0, .getfield 28696, .imul, .bipush 0, .sipush 0, .sipush 0, .invokeinterface 1803 5, .aload 0, .getfield 28696, .sipush 1, .isub, .istore 1, .goto_w 1]
def b1802_1 : List Instr := [.iload 1, .ifCond .lt 7, .aload 0, .getfield 28707, .aload 0, .getfield 28779, .iload 1, .iaload, .iaload, .istore 2, .sipush 61, .iload 1, .sipush 1, .iadd, .imul, .istore 3, .aload 0, .sipush 61, .iload 1, .imul, .iload 2, .iadd, .aload 0, .getfield 28787, .iload 3, .laload, .aload 0, .getfield 28795, .iload 3, .iaload, .aload 0, .getfield 28803, .iload 3, .iaload, .invokeinterface 1803 5, .iload 2, .sipush 1, .isub, .istore 4, .goto_w 2]
def b1802_2 : List Instr := [.iload 4, .ifCond .lt 6, .sipush 61, .iload 1, .imul, .iload 4, .iadd, .istore 5, .aload 0, .iload 5, .aload 0, .getfield 28787, .iload 5, .sipush 1, .iadd, .laload, .aload 0, .getfield 28795, .iload 5, .sipush 1, .iadd, .iaload, .aload 0, .getfield 28803, .iload 5, .sipush 1, .iadd, .iaload, .sipush 1, .iadd, .invokeinterface 1803 5, .sipush 0, .istore 6, .goto_w 3]
def b1802_3 : List Instr := [.iload 6, .aload 0, .getfield 28720, .if_icmp .ge 5, .aload 0, .iload 6, .iload 1, .iload 4, .invokeinterface 1804 4, .ifCond .eq 4, .sipush 61, .aload 0, .getfield 28808, .imul, .aload 0, .getfield 28816, .iadd, .istore 7, .aload 0, .getfield 28787, .iload 7, .laload, .aload 0, .getfield 28739, .iload 6, .laload, .ladd, .lstore 8, .aload 0, .getfield 28795, .iload 7, .iaload, .aload 0, .getfield 28824, .iadd, .istore 10, .aload 0, .iload 5, .lload 8, .iload 10, .aload 0, .getfield 28803, .iload 7, .iaload, .invokeinterface 1807 5, .ifCond .eq 4, .aload 0, .iload 5, .lload 8, .iload 10, .aload 0, .getfield 28803, .iload 7, .iaload, .invokeinterface 1803 5, .goto_w 4]
def b1802_4 : List Instr := [.iinc 6 1, .goto 3]
def b1802_5 : List Instr := [.iinc 4 (-1), .goto 2]
def b1802_6 : List Instr := [.iinc 1 (-1), .goto 1]
def b1802_7 : List Instr := [.return_]
/-- TimberHouseModel$Fingers.reckon()V -/
def m1802 : pm_M := (fun j => [b1802_0, b1802_1, b1802_2, b1802_3, b1802_4, b1802_5, b1802_6, b1802_7].getD j [], fun _ => [], 28, 11)
def b1803_0 : List Instr := [.aload 0, .getfield 28787, .iload 1, .lload 2, .lastore, .aload 0, .getfield 28795, .iload 1, .iload 4, .iastore, .aload 0, .getfield 28803, .iload 1, .iload 5, .iastore, .return_]
/-- TimberHouseModel$Fingers.set(IJII)V -/
def m1803 : pm_M := (fun j => [b1803_0].getD j [], fun _ => [], 28, 6)
def b1804_0 : List Instr := [.aload 0, .iload 2, .putfield 28808, .aload 0, .iload 3, .putfield 28816, .aload 0, .sipush 0, .putfield 28824, .sipush 0, .istore 4, .goto_w 1]
def b1804_1 : List Instr := [.iload 4, .aload 0, .getfield 28731, .iload 1, .iaload, .if_icmp .ge 6, .aload 0, .getfield 28707, .aload 0, .getfield 28779, .aload 0, .getfield 28808, .iaload, .iaload, .aload 0, .getfield 28816, .isub, .istore 5, .aload 0, .getfield 28731, .iload 1, .iaload, .iload 4, .isub, .iload 5, .if_icmp .ge 2, .aload 0, .getfield 28731, .iload 1, .iaload, .iload 4, .isub, .goto 3]
def b1804_2 : List Instr := [.iload 5, .goto_w 3]
def b1804_3 : List Instr := [.istore 6, .iload 4, .iload 6, .iadd, .istore 4, .aload 0, .dup, .getfield 28816, .iload 6, .iadd, .putfield 28816, .iload 4, .aload 0, .getfield 28731, .iload 1, .iaload, .if_icmp .ge 5, .aload 0, .aload 0, .getfield 28808, .iload 4, .invokeinterface 1805 3, .ifCond .ne 4, .sipush 0, .jsr 2]
def b1804_4 : List Instr := [.aload 0, .dup, .getfield 28808, .sipush 1, .iadd, .putfield 28808, .aload 0, .aload 0, .getfield 28688, .putfield 28816, .aload 0, .dup, .getfield 28824, .sipush 1, .iadd, .putfield 28824, .goto_w 5]
def b1804_5 : List Instr := [.goto 1]
def b1804_6 : List Instr := [.sipush 1, .jsr 2]
/-- TimberHouseModel$Fingers.follows(III)Z -/
def m1804 : pm_M := (fun j => [b1804_0, b1804_1, b1804_2, b1804_3, b1804_4, b1804_5, b1804_6].getD j [], fun _ => [], 28, 7)
def b1805_0 : List Instr := [.iload 1, .sipush 1, .iadd, .aload 0, .getfield 28696, .if_icmp .ge 1, .aload 0, .getfield 28707, .aload 0, .getfield 28779, .iload 1, .sipush 1, .iadd, .iaload, .iaload, .aload 0, .getfield 28688, .if_icmp .le 1, .aload 0, .iload 2, .invokeinterface 1806 2, .ifCond .eq 2, .goto_w 1]
def b1805_1 : List Instr := [.sipush 0, .jsr 2]
def b1805_2 : List Instr := [.aload 0, .getfield 28715, .aload 0, .getfield 28779, .iload 1, .iaload, .iaload, .istore 3, .aload 0, .getfield 28715, .aload 0, .getfield 28779, .iload 1, .sipush 1, .iadd, .iaload, .iaload, .istore 4, .iload 3, .iload 4, .if_icmp .eq 3, .aload 0, .getfield 28771, .iload 3, .baload, .ifCond .ne 4, .aload 0, .getfield 28771, .iload 4, .baload, .ifCond .ne 4, .goto_w 3]
def b1805_3 : List Instr := [.sipush 1, .goto 5]
def b1805_4 : List Instr := [.sipush 0, .goto_w 5]
def b1805_5 : List Instr := [.jsr 2]
/-- TimberHouseModel$Fingers.mayJoin(II)Z -/
def m1805 : pm_M := (fun j => [b1805_0, b1805_1, b1805_2, b1805_3, b1805_4, b1805_5].getD j [], fun _ => [], 28, 5)
def b1806_0 : List Instr := [.sipush 0, .istore 2, .sipush 0, .istore 3, .goto_w 1]
def b1806_1 : List Instr := [.iload 3, .aload 0, .getfield 28744, .if_icmp .ge 5, .iload 2, .ifCond .ne 2, .iload 1, .i2l, .aload 0, .getfield 28680, .i2l, .lmul, .aload 0, .getfield 28755, .iload 3, .iaload, .i2l, .lcmp, .ifCond .le 3, .iload 1, .i2l, .aload 0, .getfield 28680, .i2l, .lmul, .aload 0, .getfield 28763, .iload 3, .iaload, .i2l, .lcmp, .ifCond .ge 3, .goto_w 2]
def b1806_2 : List Instr := [.sipush 1, .goto 4]
def b1806_3 : List Instr := [.sipush 0, .goto_w 4]
def b1806_4 : List Instr := [.istore 2, .iinc 3 1, .goto 1]
def b1806_5 : List Instr := [.iload 2, .jsr 2]
/-- TimberHouseModel$Fingers.isBarred(I)Z -/
def m1806 : pm_M := (fun j => [b1806_0, b1806_1, b1806_2, b1806_3, b1806_4, b1806_5].getD j [], fun _ => [], 28, 4)
def b1807_0 : List Instr := [.lload 2, .aload 0, .getfield 28787, .iload 1, .laload, .lcmp, .ifCond .eq 3, .lload 2, .aload 0, .getfield 28787, .iload 1, .laload, .lcmp, .ifCond .le 1, .sipush 1, .goto 2]
def b1807_1 : List Instr := [.sipush 0, .goto_w 2]
def b1807_2 : List Instr := [.jsr 2]
def b1807_3 : List Instr := [.iload 4, .aload 0, .getfield 28795, .iload 1, .iaload, .if_icmp .lt 4, .iload 4, .aload 0, .getfield 28795, .iload 1, .iaload, .if_icmp .ne 5, .iload 5, .aload 0, .getfield 28803, .iload 1, .iaload, .if_icmp .ge 5, .goto_w 4]
def b1807_4 : List Instr := [.sipush 1, .goto 6]
def b1807_5 : List Instr := [.sipush 0, .goto_w 6]
def b1807_6 : List Instr := [.jsr 2]
/-- TimberHouseModel$Fingers.isBetter(IJII)Z -/
def m1807 : pm_M := (fun j => [b1807_0, b1807_1, b1807_2, b1807_3, b1807_4, b1807_5, b1807_6].getD j [], fun _ => [], 28, 6)
def b1808_0 : List Instr := [.aload 0, .sipush 0, .putfield 28848, .aload 0, .sipush 0, .putfield 28896, .sipush 0, .istore 1, .sipush 0, .istore 2, .goto_w 1]
def b1808_1 : List Instr := [.iload 1, .aload 0, .getfield 28696, .if_icmp .ge 5, .iload 2, .aload 0, .getfield 28707, .aload 0, .getfield 28779, .iload 1, .iaload, .iaload, .if_icmp .ne 2, .iinc 1 1, .sipush 0, .istore 2, .goto 1]
def b1808_2 : List Instr := [.aload 0, .iload 1, .iload 2, .invokeinterface 1809 3, .istore 3, .iload 3, .ifCond .ge 3, .iinc 2 1, .goto 4]
def b1808_3 : List Instr := [.aload 0, .iload 3, .iload 1, .iload 2, .invokeinterface 1810 4, .aload 0, .getfield 28808, .istore 1, .aload 0, .getfield 28816, .istore 2, .goto_w 4]
def b1808_4 : List Instr := [.goto 1]
def b1808_5 : List Instr := [.aload 0, .sipush 1, .putfield 28834, .sipush 0, .istore 3, .goto_w 6]
def b1808_6 : List Instr := [.iload 3, .aload 0, .getfield 28696, .if_icmp .ge 7, .aload 0, .getfield 28843, .iload 3, .aload 0, .getfield 28779, .iload 3, .iaload, .iastore, .iinc 3 1, .goto 6]
def b1808_7 : List Instr := [.aload 0, .getfield 28848, .jsr 0]
/-- TimberHouseModel$Fingers.walk()I -/
def m1808 : pm_M := (fun j => [b1808_0, b1808_1, b1808_2, b1808_3, b1808_4, b1808_5, b1808_6, b1808_7].getD j [], fun _ => [], 28, 4)
def b1809_0 : List Instr := [.sipush 61, .iload 1, .imul, .iload 2, .iadd, .istore 3, .sipush 0, .istore 4, .goto_w 1]
def b1809_1 : List Instr := [.iload 4, .aload 0, .getfield 28720, .if_icmp .ge 5, .aload 0, .iload 4, .iload 1, .iload 2, .invokeinterface 1804 4, .ifCond .eq 4, .sipush 61, .aload 0, .getfield 28808, .imul, .aload 0, .getfield 28816, .iadd, .istore 5, .aload 0, .getfield 28787, .iload 5, .laload, .aload 0, .getfield 28739, .iload 4, .laload, .ladd, .aload 0, .getfield 28787, .iload 3, .laload, .lcmp, .ifCond .ne 2, .aload 0, .getfield 28795, .iload 5, .iaload, .aload 0, .getfield 28824, .iadd, .aload 0, .getfield 28795, .iload 3, .iaload, .if_icmp .ne 2, .aload 0, .getfield 28803, .iload 5, .iaload, .aload 0, .getfield 28803, .iload 3, .iaload, .if_icmp .ne 2, .sipush 1, .goto 3]
def b1809_2 : List Instr := [.sipush 0, .goto_w 3]
def b1809_3 : List Instr := [.istore 6, .iload 6, .ifCond .eq 4, .iload 4, .jsr 0]
def b1809_4 : List Instr := [.iinc 4 1, .goto 1]
def b1809_5 : List Instr := [.sipush (-1), .jsr 0]
/-- TimberHouseModel$Fingers.goOn(II)I -/
def m1809 : pm_M := (fun j => [b1809_0, b1809_1, b1809_2, b1809_3, b1809_4, b1809_5].getD j [], fun _ => [], 28, 7)
def b1810_0 : List Instr := [.aload 0, .getfield 28859, .aload 0, .getfield 28848, .iload 1, .iastore, .aload 0, .getfield 28867, .aload 0, .getfield 28848, .iload 2, .iastore, .aload 0, .getfield 28875, .aload 0, .getfield 28848, .iload 3, .iastore, .aload 0, .getfield 28883, .aload 0, .getfield 28848, .aload 0, .getfield 28824, .iastore, .aload 0, .getfield 28891, .aload 0, .getfield 28848, .sipush 0, .iastore, .aload 0, .getfield 28707, .aload 0, .getfield 28779, .iload 2, .iaload, .iaload, .iload 3, .isub, .istore 4, .sipush 0, .istore 5, .goto_w 1]
def b1810_1 : List Instr := [.iload 5, .aload 0, .getfield 28824, .if_icmp .ge 2, .aload 0, .getfield 28907, .aload 0, .getfield 28896, .aload 0, .getfield 28848, .iastore, .aload 0, .getfield 28915, .aload 0, .getfield 28896, .iload 4, .iastore, .aload 0, .getfield 28923, .aload 0, .getfield 28896, .iload 2, .sipush 1, .iadd, .iload 5, .iadd, .iastore, .aload 0, .dup, .getfield 28896, .sipush 1, .iadd, .putfield 28896, .iload 4, .aload 0, .getfield 28707, .aload 0, .getfield 28779, .iload 2, .sipush 1, .iadd, .iload 5, .iadd, .iaload, .iaload, .aload 0, .getfield 28688, .isub, .iadd, .istore 4, .iinc 5 1, .goto 1]
def b1810_2 : List Instr := [.aload 0, .dup, .getfield 28848, .sipush 1, .iadd, .putfield 28848, .return_]
/-- TimberHouseModel$Fingers.put(III)V -/
def m1810 : pm_M := (fun j => [b1810_0, b1810_1, b1810_2].getD j [], fun _ => [], 28, 6)
def b1811_0 : List Instr := [.aload 0, .iload 1, .i2l, .bipush 0, .bipush 5, .invokeinterface 1795 3, .ifCond .eq 1, .sipush 0, .goto 2]
def b1811_1 : List Instr := [.sipush 1, .goto_w 2]
def b1811_2 : List Instr := [.putfield 28672, .aload 0, .getfield 28672, .ifCond .le 3, .sipush 0, .jsr 0]
def b1811_3 : List Instr := [.iload 1, .aload 0, .getfield 28696, .if_icmp .ge 4, .iload 1, .goto 5]
def b1811_4 : List Instr := [.aload 0, .getfield 28696, .goto_w 5]
def b1811_5 : List Instr := [.istore 2, .sipush 1, .istore 3, .sipush 2, .istore 4, .goto_w 6]
def b1811_6 : List Instr := [.iload 4, .iload 2, .if_icmp .gt 7, .iload 3, .iload 4, .imul, .istore 3, .iinc 4 1, .goto 6]
def b1811_7 : List Instr := [.aload 0, .invokeinterface 1801 1, .sipush 0, .istore 4, .bipush 0, .lstore 5, .sipush 0, .istore 7, .sipush 0, .istore 8, .sipush 0, .istore 9, .goto_w 8]
def b1811_8 : List Instr := [.iload 9, .iload 3, .if_icmp .ge 14, .aload 0, .iload 9, .iload 2, .invokeinterface 1812 3, .aload 0, .invokeinterface 1802 1, .aload 0, .getfield 28787, .sipush 0, .laload, .lload 5, .lcmp, .ifCond .gt 9, .aload 0, .getfield 28787, .sipush 0, .laload, .lload 5, .lcmp, .ifCond .ne 10, .aload 0, .getfield 28795, .sipush 0, .iaload, .iload 7, .if_icmp .lt 9, .aload 0, .getfield 28795, .sipush 0, .iaload, .iload 7, .if_icmp .ne 10, .aload 0, .getfield 28803, .sipush 0, .iaload, .iload 8, .if_icmp .ge 10, .goto_w 9]
def b1811_9 : List Instr := [.sipush 1, .goto 11]
def b1811_10 : List Instr := [.sipush 0, .goto_w 11]
def b1811_11 : List Instr := [.istore 10, .iload 9, .ifCond .eq 12, .iload 10, .ifCond .eq 13, .goto_w 12]
def b1811_12 : List Instr := [.iload 9, .istore 4, .aload 0, .getfield 28787, .sipush 0, .laload, .lstore 5, .aload 0, .getfield 28795, .sipush 0, .iaload, .istore 7, .aload 0, .getfield 28803, .sipush 0, .iaload, .istore 8, .goto_w 13]
def b1811_13 : List Instr := [.iinc 9 1, .goto 8]
def b1811_14 : List Instr := [.aload 0, .iload 4, .iload 2, .invokeinterface 1812 3, .aload 0, .invokeinterface 1802 1, .aload 0, .invokeinterface 1808 1, .jsr 0]
/-- TimberHouseModel$Fingers.order(I)I -/
def m1811 : pm_M := (fun j => [b1811_0, b1811_1, b1811_2, b1811_3, b1811_4, b1811_5, b1811_6, b1811_7, b1811_8, b1811_9, b1811_10, b1811_11, b1811_12, b1811_13, b1811_14].getD j [], fun _ => [], 28, 11)
def b1812_0 : List Instr := [.sipush 0, .istore 3, .iload 1, .istore 4, .sipush 1, .istore 5, .sipush 2, .istore 6, .goto_w 1]
def b1812_1 : List Instr := [.iload 6, .iload 2, .if_icmp .ge 2, .iload 5, .iload 6, .imul, .istore 5, .iinc 6 1, .goto 1]
def b1812_2 : List Instr := [.sipush 0, .istore 6, .goto_w 3]
def b1812_3 : List Instr := [.iload 6, .iload 2, .if_icmp .ge 11, .iload 4, .iload 5, .idiv, .istore 7, .iload 4, .iload 5, .irem, .istore 4, .iload 2, .sipush 1, .isub, .iload 6, .isub, .sipush 1, .if_icmp .le 4, .iload 5, .iload 2, .sipush 1, .isub, .iload 6, .isub, .idiv, .goto 5]
def b1812_4 : List Instr := [.sipush 1, .goto_w 5]
def b1812_5 : List Instr := [.istore 5, .sipush 0, .istore 8, .goto_w 6]
def b1812_6 : List Instr := [.iload 3, .iload 8, .ishr, .sipush 1, .iand, .sipush 1, .if_icmp .eq 7, .iload 7, .ifCond .le 10, .goto_w 7]
def b1812_7 : List Instr := [.iload 3, .iload 8, .ishr, .sipush 1, .iand, .sipush 1, .if_icmp .ne 8, .iload 7, .goto 9]
def b1812_8 : List Instr := [.iload 7, .sipush 1, .isub, .goto_w 9]
def b1812_9 : List Instr := [.istore 7, .iinc 8 1, .goto 6]
def b1812_10 : List Instr := [.aload 0, .getfield 28779, .iload 6, .iload 8, .iastore, .iload 3, .sipush 1, .iload 8, .ishl, .ior, .istore 3, .iinc 6 1, .goto 3]
def b1812_11 : List Instr := [.return_]
/-- TimberHouseModel$Fingers.orderBy(II)V -/
def m1812 : pm_M := (fun j => [b1812_0, b1812_1, b1812_2, b1812_3, b1812_4, b1812_5, b1812_6, b1812_7, b1812_8, b1812_9, b1812_10, b1812_11].getD j [], fun _ => [], 28, 9)
def b1813_0 : List Instr := [.aload 0, .invokeinterface 1814 1, .ifCond .eq 1, .sipush 0, .jsr 0]
def b1813_1 : List Instr := [.aload 0, .iload 1, .ifCond .lt 2, .iload 1, .aload 0, .getfield 28696, .if_icmp .lt 3, .goto_w 2]
def b1813_2 : List Instr := [.sipush 2, .goto 4]
def b1813_3 : List Instr := [.sipush 0, .goto_w 4]
def b1813_4 : List Instr := [.putfield 28672, .aload 0, .getfield 28672, .ifCond .le 5, .sipush 0, .goto 6]
def b1813_5 : List Instr := [.aload 0, .getfield 28843, .iload 1, .iaload, .goto_w 6]
def b1813_6 : List Instr := [.jsr 0]
/-- TimberHouseModel$Fingers.taken(I)I -/
def m1813 : pm_M := (fun j => [b1813_0, b1813_1, b1813_2, b1813_3, b1813_4, b1813_5, b1813_6].getD j [], fun _ => [], 28, 2)
def b1814_0 : List Instr := [.aload 0, .aload 0, .getfield 28834, .ifCond .eq 1, .sipush 0, .goto 2]
def b1814_1 : List Instr := [.sipush 1, .goto_w 2]
def b1814_2 : List Instr := [.putfield 28672, .aload 0, .getfield 28672, .ifCond .le 3, .sipush 1, .goto 4]
def b1814_3 : List Instr := [.sipush 0, .goto_w 4]
def b1814_4 : List Instr := [.jsr 2]
/-- TimberHouseModel$Fingers.none()Z -/
def m1814 : pm_M := (fun j => [b1814_0, b1814_1, b1814_2, b1814_3, b1814_4].getD j [], fun _ => [], 28, 1)
def b1815_0 : List Instr := [.aload 0, .invokeinterface 1814 1, .ifCond .eq 1, .bipush 0, .lreturn]
def b1815_1 : List Instr := [.aload 0, .iload 1, .ifCond .lt 2, .iload 1, .sipush 2, .if_icmp .le 3, .goto_w 2]
def b1815_2 : List Instr := [.sipush 2, .goto 4]
def b1815_3 : List Instr := [.sipush 0, .goto_w 4]
def b1815_4 : List Instr := [.putfield 28672, .aload 0, .getfield 28672, .ifCond .le 5, .bipush 0, .goto 8]
def b1815_5 : List Instr := [.iload 1, .ifCond .ne 6, .aload 0, .getfield 28787, .sipush 0, .laload, .goto 8]
def b1815_6 : List Instr := [.iload 1, .sipush 1, .if_icmp .ne 7, .aload 0, .getfield 28795, .sipush 0, .iaload, .i2l, .goto 8]
def b1815_7 : List Instr := [.aload 0, .getfield 28803, .sipush 0, .iaload, .i2l, .goto_w 8]
def b1815_8 : List Instr := [.lreturn]
/-- TimberHouseModel$Fingers.worth(I)J -/
def m1815 : pm_M := (fun j => [b1815_0, b1815_1, b1815_2, b1815_3, b1815_4, b1815_5, b1815_6, b1815_7, b1815_8].getD j [], fun _ => [], 28, 2)
def b1816_0 : List Instr := [.aload 0, .invokeinterface 1814 1, .ifCond .eq 1, .sipush 0, .jsr 0]
def b1816_1 : List Instr := [.aload 0, .iload 1, .ifCond .lt 2, .iload 1, .aload 0, .getfield 28848, .if_icmp .lt 3, .goto_w 2]
def b1816_2 : List Instr := [.sipush 2, .goto 6]
def b1816_3 : List Instr := [.iload 2, .ifCond .lt 4, .iload 2, .sipush 3, .if_icmp .le 5, .goto_w 4]
def b1816_4 : List Instr := [.sipush 3, .goto 6]
def b1816_5 : List Instr := [.sipush 0, .goto_w 6]
def b1816_6 : List Instr := [.putfield 28672, .aload 0, .getfield 28672, .ifCond .le 7, .sipush 0, .jsr 0]
def b1816_7 : List Instr := [.iload 2, .ifCond .ne 8, .aload 0, .getfield 28859, .iload 1, .iaload, .goto 11]
def b1816_8 : List Instr := [.iload 2, .sipush 1, .if_icmp .ne 9, .aload 0, .getfield 28867, .iload 1, .iaload, .goto 11]
def b1816_9 : List Instr := [.iload 2, .sipush 2, .if_icmp .ne 10, .aload 0, .getfield 28875, .iload 1, .iaload, .goto 11]
def b1816_10 : List Instr := [.aload 0, .getfield 28883, .iload 1, .iaload, .goto_w 11]
def b1816_11 : List Instr := [.jsr 0]
/-- TimberHouseModel$Fingers.product(II)I -/
def m1816 : pm_M := (fun j => [b1816_0, b1816_1, b1816_2, b1816_3, b1816_4, b1816_5, b1816_6, b1816_7, b1816_8, b1816_9, b1816_10, b1816_11].getD j [], fun _ => [], 28, 3)
def b1817_0 : List Instr := [.aload 0, .invokeinterface 1814 1, .ifCond .eq 1, .sipush 0, .jsr 0]
def b1817_1 : List Instr := [.aload 0, .iload 1, .ifCond .lt 2, .iload 1, .aload 0, .getfield 28896, .if_icmp .lt 3, .goto_w 2]
def b1817_2 : List Instr := [.sipush 2, .goto 6]
def b1817_3 : List Instr := [.iload 2, .ifCond .lt 4, .iload 2, .sipush 2, .if_icmp .le 5, .goto_w 4]
def b1817_4 : List Instr := [.sipush 3, .goto 6]
def b1817_5 : List Instr := [.sipush 0, .goto_w 6]
def b1817_6 : List Instr := [.putfield 28672, .aload 0, .getfield 28672, .ifCond .le 7, .sipush 0, .jsr 0]
def b1817_7 : List Instr := [.iload 2, .ifCond .ne 8, .aload 0, .getfield 28907, .iload 1, .iaload, .goto 10]
def b1817_8 : List Instr := [.iload 2, .sipush 1, .if_icmp .ne 9, .aload 0, .getfield 28915, .iload 1, .iaload, .goto 10]
def b1817_9 : List Instr := [.aload 0, .getfield 28923, .iload 1, .iaload, .goto_w 10]
def b1817_10 : List Instr := [.jsr 0]
/-- TimberHouseModel$Fingers.joint(II)I -/
def m1817 : pm_M := (fun j => [b1817_0, b1817_1, b1817_2, b1817_3, b1817_4, b1817_5, b1817_6, b1817_7, b1817_8, b1817_9, b1817_10].getD j [], fun _ => [], 28, 3)
def b1818_0 : List Instr := [.aload 0, .invokeinterface 1814 1, .ifCond .eq 1, .sipush 0, .jsr 2]
def b1818_1 : List Instr := [.aload 0, .iload 1, .ifCond .lt 2, .iload 1, .aload 0, .getfield 28848, .if_icmp .lt 3, .goto_w 2]
def b1818_2 : List Instr := [.sipush 2, .goto 5]
def b1818_3 : List Instr := [.iload 2, .i2l, .bipush 0, .bipush 1000, .invokeinterface 1795 3, .ifCond .eq 4, .sipush 0, .goto 5]
def b1818_4 : List Instr := [.sipush 3, .goto_w 5]
def b1818_5 : List Instr := [.putfield 28672, .aload 0, .getfield 28672, .ifCond .gt 6, .aload 0, .getfield 28891, .iload 1, .iaload, .iload 2, .if_icmp .ne 7, .goto_w 6]
def b1818_6 : List Instr := [.sipush 0, .jsr 2]
def b1818_7 : List Instr := [.aload 0, .getfield 28891, .iload 1, .iload 2, .iastore, .sipush 1, .jsr 2]
/-- TimberHouseModel$Fingers.cure(II)Z -/
def m1818 : pm_M := (fun j => [b1818_0, b1818_1, b1818_2, b1818_3, b1818_4, b1818_5, b1818_6, b1818_7].getD j [], fun _ => [], 28, 3)
def b1819_0 : List Instr := [.aload 0, .invokeinterface 1814 1, .ifCond .eq 1, .sipush 0, .jsr 2]
def b1819_1 : List Instr := [.aload 0, .iload 1, .ifCond .lt 2, .iload 1, .aload 0, .getfield 28848, .if_icmp .lt 3, .goto_w 2]
def b1819_2 : List Instr := [.sipush 2, .goto 4]
def b1819_3 : List Instr := [.sipush 0, .goto_w 4]
def b1819_4 : List Instr := [.putfield 28672, .aload 0, .getfield 28672, .ifCond .ne 5, .iload 2, .aload 0, .getfield 28891, .iload 1, .iaload, .if_icmp .lt 5, .sipush 1, .goto 6]
def b1819_5 : List Instr := [.sipush 0, .goto_w 6]
def b1819_6 : List Instr := [.jsr 2]
/-- TimberHouseModel$Fingers.load(II)Z -/
def m1819 : pm_M := (fun j => [b1819_0, b1819_1, b1819_2, b1819_3, b1819_4, b1819_5, b1819_6].getD j [], fun _ => [], 28, 3)
def b1820_0 : List Instr := [.aload 0, .invokeinterface 1814 1, .ifCond .eq 1, .sipush 0, .jsr 0]
def b1820_1 : List Instr := [.aload 0, .iload 1, .ifCond .lt 2, .iload 1, .aload 0, .getfield 28848, .if_icmp .lt 3, .goto_w 2]
def b1820_2 : List Instr := [.sipush 2, .goto 5]
def b1820_3 : List Instr := [.dload 2, .ldc2_w 0, .dcmp .l, .ifCond .lt 4, .dload 2, .ldc2_w 4652007308841189376, .dcmp .g, .ifCond .gt 4, .sipush 0, .goto 5]
def b1820_4 : List Instr := [.sipush 3, .goto_w 5]
def b1820_5 : List Instr := [.putfield 28672, .aload 0, .getfield 28672, .ifCond .le 6, .sipush 0, .jsr 0]
def b1820_6 : List Instr := [.dload 2, .ldc2_w 4625196817309499392, .dcmp .g, .ifCond .ge 7, .sipush 1, .goto 8]
def b1820_7 : List Instr := [.sipush 0, .goto_w 8]
def b1820_8 : List Instr := [.istore 4, .aload 0, .dup, .getfield 28929, .bipush 1, .ladd, .putfield 28929, .aload 0, .iload 4, .ifCond .eq 9, .aload 0, .getfield 28937, .bipush 1, .ladd, .goto 10]
def b1820_9 : List Instr := [.aload 0, .getfield 28937, .goto_w 10]
def b1820_10 : List Instr := [.putfield 28937, .aload 0, .sipush 0, .iload 4, .invokeinterface 1821 3, .aload 0, .sipush 1, .iload 4, .ifCond .eq 11, .aload 0, .getfield 28946, .ifCond .eq 11, .sipush 1, .goto 12]
def b1820_11 : List Instr := [.sipush 0, .goto_w 12]
def b1820_12 : List Instr := [.invokeinterface 1821 3, .aload 0, .sipush 2, .aload 0, .getfield 28929, .bipush 10, .lcmp, .ifCond .lt 13, .bipush 10, .aload 0, .getfield 28937, .lmul, .aload 0, .getfield 28929, .lcmp, .ifCond .le 13, .sipush 1, .goto 14]
def b1820_13 : List Instr := [.sipush 0, .goto_w 14]
def b1820_14 : List Instr := [.invokeinterface 1821 3, .aload 0, .iload 4, .putfield 28946, .aload 0, .getfield 28929, .l2i, .jsr 0]
/-- TimberHouseModel$Fingers.test(ID)I -/
def m1820 : pm_M := (fun j => [b1820_0, b1820_1, b1820_2, b1820_3, b1820_4, b1820_5, b1820_6, b1820_7, b1820_8, b1820_9, b1820_10, b1820_11, b1820_12, b1820_13, b1820_14].getD j [], fun _ => [], 28, 5)
def b1821_0 : List Instr := [.aload 0, .getfield 28955, .iload 1, .aload 0, .getfield 28955, .iload 1, .iaload, .ifCond .ne 1, .iload 2, .ifCond .eq 1, .aload 0, .getfield 28929, .l2i, .goto 2]
def b1821_1 : List Instr := [.aload 0, .getfield 28955, .iload 1, .iaload, .goto_w 2]
def b1821_2 : List Instr := [.iastore, .return_]
/-- TimberHouseModel$Fingers.stopBy(IZ)V -/
def m1821 : pm_M := (fun j => [b1821_0, b1821_1, b1821_2].getD j [], fun _ => [], 28, 3)
def b1822_0 : List Instr := [.aload 0, .iload 1, .ifCond .lt 1, .iload 1, .sipush 1, .if_icmp .le 2, .goto_w 1]
def b1822_1 : List Instr := [.sipush 1, .goto 3]
def b1822_2 : List Instr := [.sipush 0, .goto_w 3]
def b1822_3 : List Instr := [.putfield 28672, .aload 0, .getfield 28672, .ifCond .le 4, .bipush 0, .goto 6]
def b1822_4 : List Instr := [.iload 1, .sipush 1, .if_icmp .ne 5, .aload 0, .getfield 28929, .aload 0, .getfield 28937, .lsub, .goto 6]
def b1822_5 : List Instr := [.aload 0, .getfield 28937, .goto_w 6]
def b1822_6 : List Instr := [.lreturn]
/-- TimberHouseModel$Fingers.counted(I)J -/
def m1822 : pm_M := (fun j => [b1822_0, b1822_1, b1822_2, b1822_3, b1822_4, b1822_5, b1822_6].getD j [], fun _ => [], 28, 2)
def b1823_0 : List Instr := [.aload 0, .iload 1, .ifCond .lt 1, .iload 1, .sipush 2, .if_icmp .le 2, .goto_w 1]
def b1823_1 : List Instr := [.sipush 1, .goto 3]
def b1823_2 : List Instr := [.sipush 0, .goto_w 3]
def b1823_3 : List Instr := [.putfield 28672, .aload 0, .getfield 28672, .ifCond .le 4, .sipush 0, .goto 5]
def b1823_4 : List Instr := [.aload 0, .getfield 28955, .iload 1, .iaload, .goto_w 5]
def b1823_5 : List Instr := [.jsr 0]
/-- TimberHouseModel$Fingers.stop(I)I -/
def m1823 : pm_M := (fun j => [b1823_0, b1823_1, b1823_2, b1823_3, b1823_4, b1823_5].getD j [], fun _ => [], 28, 2)
def b1856_0 : List Instr := [.aload 0, .f2i, .aload 0, .sipush 64, .newarray .int, .putfield 29731, .aload 0, .sipush 64, .newarray .int, .putfield 29739, .aload 0, .sipush 64, .newarray .int, .putfield 29747, .aload 0, .sipush 64, .newarray .int, .putfield 29755, .aload 0, .sipush 64, .newarray .int, .putfield 29763, .aload 0, .sipush 6, .newarray .int, .putfield 29779, .aload 0, .sipush 6, .newarray .int, .putfield 29787, .aload 0, .sipush 390, .newarray .int, .putfield 29795, .aload 0, .sipush 6, .newarray .int, .putfield 29811, .aload 0, .sipush 65, .newarray .int, .putfield 29819, .aload 0, .sipush 65, .newarray .int, .putfield 29827, .aload 0, .sipush 6, .newarray .int, .putfield 29843, .aload 0, .sipush 96, .newarray .int, .putfield 29851, .aload 0, .sipush 96, .newarray .int, .putfield 29859, .aload 0, .sipush 8, .newarray .int, .putfield 29891, .aload 0, .sipush 8, .newarray .int, .putfield 29899, .return_]
/-- TimberHouseModel$Turned.<init>()V -/
def m1856 : pm_M := (fun j => [b1856_0].getD j [], fun _ => [], 29, 1)
def b1857_0 : List Instr := [.aload 0, .iload 1, .i2l, .bipush 0, .bipush 500, .invokeinterface 1858 3, .ifCond .eq 1, .sipush 0, .goto 2]
def b1857_1 : List Instr := [.sipush 1, .goto_w 2]
def b1857_2 : List Instr := [.putfield 29696, .aload 0, .getfield 29696, .ifCond .ne 3, .aload 0, .sipush 1, .putfield 29706, .aload 0, .iload 1, .putfield 29712, .aload 0, .sipush 0, .putfield 29720, .goto_w 3]
def b1857_3 : List Instr := [.return_]
/-- TimberHouseModel$Turned.start(I)V -/
def m1857 : pm_M := (fun j => [b1857_0, b1857_1, b1857_2, b1857_3].getD j [], fun _ => [], 29, 2)
def b1858_0 : List Instr := [.lload 0, .lload 2, .lcmp, .ifCond .lt 1, .lload 0, .lload 4, .lcmp, .ifCond .gt 1, .sipush 1, .goto 2]
def b1858_1 : List Instr := [.sipush 0, .goto_w 2]
def b1858_2 : List Instr := [.jsr 2]
/-- TimberHouseModel$Turned.in(JJJ)Z -/
def m1858 : pm_M := (fun j => [b1858_0, b1858_1, b1858_2].getD j [], fun _ => [], 0, 6)
def b1859_0 : List Instr := [.aload 0, .getfield 29696, .jsr 0]
/-- TimberHouseModel$Turned.thrown()I -/
def m1859 : pm_M := (fun j => [b1859_0].getD j [], fun _ => [], 29, 1)
def b1860_0 : List Instr := [.aload 0, .iload 1, .iload 2, .invokeinterface 1861 3, .aload 0, .getfield 29696, .ifCond .le 1, .sipush 0, .jsr 0]
def b1860_1 : List Instr := [.aload 0, .iload 1, .iload 2, .sipush 0, .sipush 0, .sipush 0, .invokeinterface 1863 6, .aload 0, .getfield 29720, .jsr 0]
/-- TimberHouseModel$Turned.line(II)I -/
def m1860 : pm_M := (fun j => [b1860_0, b1860_1].getD j [], fun _ => [], 29, 3)
def b1861_0 : List Instr := [.aload 0, .iload 2, .i2l, .bipush 0, .bipush 500, .invokeinterface 1858 3, .ifCond .eq 1, .iload 1, .i2l, .bipush 1, .bipush 64, .invokeinterface 1858 3, .ifCond .ne 2, .goto_w 1]
def b1861_1 : List Instr := [.sipush 1, .goto 5]
def b1861_2 : List Instr := [.aload 0, .getfield 29706, .ifCond .ne 3, .sipush 2, .goto 5]
def b1861_3 : List Instr := [.iload 1, .aload 0, .invokeinterface 1862 1, .if_icmp .gt 4, .sipush 1, .goto 5]
def b1861_4 : List Instr := [.sipush 0, .goto_w 5]
def b1861_5 : List Instr := [.putfield 29696, .return_]
/-- TimberHouseModel$Turned.look(II)V -/
def m1861 : pm_M := (fun j => [b1861_0, b1861_1, b1861_2, b1861_3, b1861_4, b1861_5].getD j [], fun _ => [], 29, 3)
def b1862_0 : List Instr := [.aload 0, .getfield 29720, .ifCond .ne 1, .sipush 0, .goto 2]
def b1862_1 : List Instr := [.aload 0, .getfield 29731, .aload 0, .getfield 29720, .sipush 1, .isub, .iaload, .goto_w 2]
def b1862_2 : List Instr := [.jsr 0]
/-- TimberHouseModel$Turned.lastAt()I -/
def m1862 : pm_M := (fun j => [b1862_0, b1862_1, b1862_2].getD j [], fun _ => [], 29, 1)
def b1863_0 : List Instr := [.aload 0, .getfield 29731, .aload 0, .getfield 29720, .iload 1, .iastore, .aload 0, .getfield 29739, .aload 0, .getfield 29720, .iload 2, .iastore, .aload 0, .getfield 29747, .aload 0, .getfield 29720, .iload 3, .iastore, .aload 0, .getfield 29755, .aload 0, .getfield 29720, .iload 4, .iastore, .aload 0, .getfield 29763, .aload 0, .getfield 29720, .iload 5, .iastore, .aload 0, .dup, .getfield 29720, .sipush 1, .iadd, .putfield 29720, .return_]
/-- TimberHouseModel$Turned.add(IIIII)V -/
def m1863 : pm_M := (fun j => [b1863_0].getD j [], fun _ => [], 29, 6)
def b1864_0 : List Instr := [.aload 0, .iload 1, .iload 2, .invokeinterface 1861 3, .aload 0, .iload 3, .i2l, .bipush (-200), .bipush 300, .invokeinterface 1858 3, .ifCond .eq 1, .iload 4, .i2l, .bipush (-1000), .bipush 1500, .invokeinterface 1858 3, .ifCond .ne 2, .goto_w 1]
def b1864_1 : List Instr := [.sipush 1, .goto 3]
def b1864_2 : List Instr := [.aload 0, .getfield 29696, .goto_w 3]
def b1864_3 : List Instr := [.putfield 29696, .aload 0, .getfield 29696, .ifCond .le 4, .sipush 0, .jsr 2]
def b1864_4 : List Instr := [.aload 0, .invokeinterface 1865 1, .istore 6, .iload 5, .ifCond .eq 6, .iload 6, .iload 4, .if_icmp .lt 5, .iload 2, .iload 4, .if_icmp .lt 5, .sipush 1, .goto 8]
def b1864_5 : List Instr := [.sipush 0, .goto 8]
def b1864_6 : List Instr := [.iload 6, .iload 4, .if_icmp .gt 7, .iload 2, .iload 4, .if_icmp .gt 7, .sipush 1, .goto 8]
def b1864_7 : List Instr := [.sipush 0, .goto_w 8]
def b1864_8 : List Instr := [.istore 7, .iload 7, .ifCond .eq 9, .aload 0, .invokeinterface 1862 1, .iload 6, .iload 3, .iload 4, .invokeinterface 1866 4, .iload 1, .iload 2, .iload 3, .iload 4, .invokeinterface 1866 4, .if_icmp .eq 10, .goto_w 9]
def b1864_9 : List Instr := [.sipush 0, .jsr 2]
def b1864_10 : List Instr := [.aload 0, .iload 1, .iload 2, .iload 5, .ifCond .eq 11, .sipush 2, .goto 12]
def b1864_11 : List Instr := [.sipush 1, .goto_w 12]
def b1864_12 : List Instr := [.iload 3, .iload 4, .invokeinterface 1863 6, .sipush 1, .jsr 2]
/-- TimberHouseModel$Turned.arc(IIIIZ)Z -/
def m1864 : pm_M := (fun j => [b1864_0, b1864_1, b1864_2, b1864_3, b1864_4, b1864_5, b1864_6, b1864_7, b1864_8, b1864_9, b1864_10, b1864_11, b1864_12].getD j [], fun _ => [], 29, 8)
def b1865_0 : List Instr := [.aload 0, .getfield 29720, .ifCond .ne 1, .aload 0, .getfield 29712, .goto 2]
def b1865_1 : List Instr := [.aload 0, .getfield 29739, .aload 0, .getfield 29720, .sipush 1, .isub, .iaload, .goto_w 2]
def b1865_2 : List Instr := [.jsr 0]
/-- TimberHouseModel$Turned.lastRadius()I -/
def m1865 : pm_M := (fun j => [b1865_0, b1865_1, b1865_2].getD j [], fun _ => [], 29, 1)
def b1866_0 : List Instr := [.iload 0, .iload 2, .isub, .iload 0, .iload 2, .isub, .imul, .iload 1, .iload 3, .isub, .iload 1, .iload 3, .isub, .imul, .iadd, .jsr 0]
/-- TimberHouseModel$Turned.square(IIII)I -/
def m1866 : pm_M := (fun j => [b1866_0].getD j [], fun _ => [], 0, 4)
def b1867_0 : List Instr := [.aload 0, .aload 0, .getfield 29768, .sipush 6, .if_icmp .eq 1, .aload 0, .getfield 29706, .ifCond .eq 1, .aload 0, .getfield 29720, .ifCond .ne 2, .goto_w 1]
def b1867_1 : List Instr := [.sipush 1, .goto 3]
def b1867_2 : List Instr := [.sipush 0, .goto_w 3]
def b1867_3 : List Instr := [.putfield 29696, .aload 0, .getfield 29696, .ifCond .le 4, .sipush 0, .jsr 0]
def b1867_4 : List Instr := [.sipush 65, .aload 0, .getfield 29768, .imul, .istore 1, .aload 0, .getfield 29795, .iload 1, .aload 0, .getfield 29712, .iastore, .sipush 0, .istore 2, .aload 0, .getfield 29712, .istore 3, .sipush 0, .istore 4, .goto_w 5]
def b1867_5 : List Instr := [.iload 4, .aload 0, .getfield 29720, .if_icmp .ge 8, .iload 2, .sipush 1, .iadd, .istore 5, .goto_w 6]
def b1867_6 : List Instr := [.iload 5, .aload 0, .getfield 29731, .iload 4, .iaload, .if_icmp .gt 7, .aload 0, .getfield 29795, .iload 1, .iload 5, .iadd, .aload 0, .iload 4, .iload 2, .iload 3, .iload 5, .invokeinterface 1868 5, .iastore, .iinc 5 1, .goto 6]
def b1867_7 : List Instr := [.aload 0, .getfield 29731, .iload 4, .iaload, .istore 2, .aload 0, .getfield 29739, .iload 4, .iaload, .istore 3, .iinc 4 1, .goto 5]
def b1867_8 : List Instr := [.aload 0, .getfield 29779, .aload 0, .getfield 29768, .iload 2, .iastore, .aload 0, .getfield 29787, .aload 0, .getfield 29768, .aload 0, .getfield 29720, .iastore, .aload 0, .dup, .getfield 29768, .sipush 1, .iadd, .putfield 29768, .aload 0, .getfield 29768, .sipush 1, .isub, .jsr 0]
/-- TimberHouseModel$Turned.turn()I -/
def m1867 : pm_M := (fun j => [b1867_0, b1867_1, b1867_2, b1867_3, b1867_4, b1867_5, b1867_6, b1867_7, b1867_8].getD j [], fun _ => [], 29, 6)
def b1868_0 : List Instr := [.aload 0, .getfield 29747, .iload 1, .iaload, .ifCond .ne 3, .iload 4, .iload 2, .isub, .aload 0, .getfield 29739, .iload 1, .iaload, .iload 3, .isub, .imul, .istore 5, .aload 0, .getfield 29731, .iload 1, .iaload, .iload 2, .isub, .istore 6, .iload 3, .iload 5, .iload 6, .idiv, .iadd, .iload 5, .iload 6, .irem, .ifCond .ge 1, .sipush 1, .goto 2]
def b1868_1 : List Instr := [.sipush 0, .goto_w 2]
def b1868_2 : List Instr := [.isub, .jsr 0]
def b1868_3 : List Instr := [.iload 2, .iload 3, .aload 0, .getfield 29755, .iload 1, .iaload, .aload 0, .getfield 29763, .iload 1, .iaload, .invokeinterface 1866 4, .iload 4, .aload 0, .getfield 29755, .iload 1, .iaload, .isub, .iload 4, .aload 0, .getfield 29755, .iload 1, .iaload, .isub, .imul, .isub, .invokeinterface 1869 1, .istore 5, .aload 0, .getfield 29747, .iload 1, .iaload, .sipush 2, .if_icmp .ne 4, .aload 0, .getfield 29763, .iload 1, .iaload, .iload 5, .iadd, .goto 5]
def b1868_4 : List Instr := [.aload 0, .getfield 29763, .iload 1, .iaload, .iload 5, .isub, .goto_w 5]
def b1868_5 : List Instr := [.istore 6, .iload 6, .ifCond .ge 6, .sipush 0, .goto 8]
def b1868_6 : List Instr := [.iload 6, .sipush 500, .if_icmp .le 7, .sipush 500, .goto 8]
def b1868_7 : List Instr := [.iload 6, .goto_w 8]
def b1868_8 : List Instr := [.jsr 0]
/-- TimberHouseModel$Turned.onWay(IIII)I -/
def m1868 : pm_M := (fun j => [b1868_0, b1868_1, b1868_2, b1868_3, b1868_4, b1868_5, b1868_6, b1868_7, b1868_8].getD j [], fun _ => [], 29, 7)
def b1869_0 : List Instr := [.sipush 0, .istore 1, .goto_w 1]
def b1869_1 : List Instr := [.iload 1, .sipush 1, .iadd, .iload 1, .sipush 1, .iadd, .imul, .iload 0, .if_icmp .gt 2, .iinc 1 1, .goto 1]
def b1869_2 : List Instr := [.iload 1, .jsr 0]
/-- TimberHouseModel$Turned.root(I)I -/
def m1869 : pm_M := (fun j => [b1869_0, b1869_1, b1869_2].getD j [], fun _ => [], 0, 2)
def b1870_0 : List Instr := [.aload 0, .aload 0, .iload 1, .iload 2, .invokeinterface 1871 3, .ifCond .eq 1, .sipush 0, .goto 2]
def b1870_1 : List Instr := [.sipush 1, .goto_w 2]
def b1870_2 : List Instr := [.putfield 29696, .aload 0, .getfield 29696, .ifCond .le 3, .sipush 0, .goto 4]
def b1870_3 : List Instr := [.aload 0, .getfield 29795, .sipush 65, .iload 1, .imul, .iload 2, .iadd, .iaload, .goto_w 4]
def b1870_4 : List Instr := [.jsr 0]
/-- TimberHouseModel$Turned.radius(II)I -/
def m1870 : pm_M := (fun j => [b1870_0, b1870_1, b1870_2, b1870_3, b1870_4].getD j [], fun _ => [], 29, 3)
def b1871_0 : List Instr := [.aload 0, .iload 1, .invokeinterface 1872 2, .ifCond .eq 1, .iload 2, .i2l, .bipush 0, .aload 0, .getfield 29779, .iload 1, .iaload, .i2l, .invokeinterface 1858 3, .ifCond .eq 1, .sipush 1, .goto 2]
def b1871_1 : List Instr := [.sipush 0, .goto_w 2]
def b1871_2 : List Instr := [.jsr 2]
/-- TimberHouseModel$Turned.hasPlace(II)Z -/
def m1871 : pm_M := (fun j => [b1871_0, b1871_1, b1871_2].getD j [], fun _ => [], 29, 3)
def b1872_0 : List Instr := [.iload 1, .i2l, .bipush 0, .aload 0, .getfield 29768, .sipush 1, .isub, .i2l, .invokeinterface 1858 3, .jsr 2]
/-- TimberHouseModel$Turned.isPiece(I)Z -/
def m1872 : pm_M := (fun j => [b1872_0].getD j [], fun _ => [], 29, 2)
def b1873_0 : List Instr := [.aload 0, .aload 0, .iload 1, .invokeinterface 1872 2, .ifCond .eq 1, .iload 2, .i2l, .bipush 0, .bipush 2, .invokeinterface 1858 3, .ifCond .eq 1, .sipush 0, .goto 2]
def b1873_1 : List Instr := [.sipush 1, .goto_w 2]
def b1873_2 : List Instr := [.putfield 29696, .aload 0, .getfield 29696, .ifCond .le 3, .sipush 0, .goto 6]
def b1873_3 : List Instr := [.iload 2, .ifCond .ne 4, .aload 0, .getfield 29779, .iload 1, .iaload, .goto 6]
def b1873_4 : List Instr := [.iload 2, .sipush 1, .if_icmp .ne 5, .aload 0, .iload 1, .invokeinterface 1874 2, .goto 6]
def b1873_5 : List Instr := [.aload 0, .getfield 29787, .iload 1, .iaload, .goto_w 6]
def b1873_6 : List Instr := [.jsr 0]
/-- TimberHouseModel$Turned.about(II)I -/
def m1873 : pm_M := (fun j => [b1873_0, b1873_1, b1873_2, b1873_3, b1873_4, b1873_5, b1873_6].getD j [], fun _ => [], 29, 3)
def b1874_0 : List Instr := [.sipush 0, .istore 2, .sipush 0, .istore 3, .goto_w 1]
def b1874_1 : List Instr := [.iload 3, .aload 0, .getfield 29779, .iload 1, .iaload, .if_icmp .gt 4, .aload 0, .getfield 29795, .sipush 65, .iload 1, .imul, .iload 3, .iadd, .iaload, .iload 2, .if_icmp .le 2, .aload 0, .getfield 29795, .sipush 65, .iload 1, .imul, .iload 3, .iadd, .iaload, .goto 3]
def b1874_2 : List Instr := [.iload 2, .goto_w 3]
def b1874_3 : List Instr := [.istore 2, .iinc 3 1, .goto 1]
def b1874_4 : List Instr := [.iload 2, .sipush 3, .iadd, .jsr 0]
/-- TimberHouseModel$Turned.blank(I)I -/
def m1874 : pm_M := (fun j => [b1874_0, b1874_1, b1874_2, b1874_3, b1874_4].getD j [], fun _ => [], 29, 4)
def b1875_0 : List Instr := [.aload 0, .iload 1, .i2l, .bipush 0, .bipush 12, .invokeinterface 1858 3, .ifCond .ne 1, .sipush 1, .goto 3]
def b1875_1 : List Instr := [.aload 0, .getfield 29800, .sipush 6, .if_icmp .ne 2, .sipush 2, .goto 3]
def b1875_2 : List Instr := [.sipush 0, .goto_w 3]
def b1875_3 : List Instr := [.putfield 29696, .aload 0, .getfield 29696, .ifCond .le 4, .sipush 0, .jsr 0]
def b1875_4 : List Instr := [.aload 0, .getfield 29811, .aload 0, .getfield 29800, .iload 1, .iastore, .aload 0, .dup, .getfield 29800, .sipush 1, .iadd, .putfield 29800, .aload 0, .getfield 29800, .sipush 1, .isub, .jsr 0]
/-- TimberHouseModel$Turned.tool(I)I -/
def m1875 : pm_M := (fun j => [b1875_0, b1875_1, b1875_2, b1875_3, b1875_4].getD j [], fun _ => [], 29, 2)
def b1876_0 : List Instr := [.aload 0, .aload 0, .iload 1, .iload 3, .invokeinterface 1871 3, .ifCond .eq 1, .iload 2, .i2l, .bipush 0, .aload 0, .getfield 29800, .sipush 1, .isub, .i2l, .invokeinterface 1858 3, .ifCond .eq 1, .sipush 0, .goto 2]
def b1876_1 : List Instr := [.sipush 1, .goto_w 2]
def b1876_2 : List Instr := [.putfield 29696, .aload 0, .getfield 29696, .ifCond .le 3, .sipush 0, .jsr 0]
def b1876_3 : List Instr := [.aload 0, .iload 1, .iload 2, .invokeinterface 1877 3, .aload 0, .getfield 29827, .iload 3, .iaload, .jsr 0]
/-- TimberHouseModel$Turned.reached(III)I -/
def m1876 : pm_M := (fun j => [b1876_0, b1876_1, b1876_2, b1876_3].getD j [], fun _ => [], 29, 4)
def b1877_0 : List Instr := [.aload 0, .getfield 29811, .iload 2, .iaload, .istore 3, .sipush 0, .istore 4, .goto_w 1]
def b1877_1 : List Instr := [.iload 4, .aload 0, .getfield 29779, .iload 1, .iaload, .if_icmp .gt 8, .aload 0, .getfield 29819, .iload 4, .sipush 0, .iastore, .iload 3, .ineg, .istore 5, .goto_w 2]
def b1877_2 : List Instr := [.iload 5, .iload 3, .if_icmp .gt 7, .iload 4, .iload 5, .iadd, .i2l, .bipush 0, .aload 0, .getfield 29779, .iload 1, .iaload, .i2l, .invokeinterface 1858 3, .ifCond .eq 3, .aload 0, .getfield 29795, .sipush 65, .iload 1, .imul, .iload 4, .iadd, .iload 5, .iadd, .iaload, .iload 3, .iload 3, .imul, .iload 5, .iload 5, .imul, .isub, .invokeinterface 1869 1, .iadd, .goto 4]
def b1877_3 : List Instr := [.sipush 0, .goto_w 4]
def b1877_4 : List Instr := [.istore 6, .aload 0, .getfield 29819, .iload 4, .iload 6, .aload 0, .getfield 29819, .iload 4, .iaload, .if_icmp .le 5, .iload 6, .goto 6]
def b1877_5 : List Instr := [.aload 0, .getfield 29819, .iload 4, .iaload, .goto_w 6]
def b1877_6 : List Instr := [.iastore, .iinc 5 1, .goto 2]
def b1877_7 : List Instr := [.iinc 4 1, .goto 1]
def b1877_8 : List Instr := [.sipush 0, .istore 4, .goto_w 9]
def b1877_9 : List Instr := [.iload 4, .aload 0, .getfield 29779, .iload 1, .iaload, .if_icmp .gt 16, .aload 0, .getfield 29827, .iload 4, .sipush 10000, .iastore, .iload 3, .ineg, .istore 5, .goto_w 10]
def b1877_10 : List Instr := [.iload 5, .iload 3, .if_icmp .gt 15, .iload 4, .iload 5, .iadd, .i2l, .bipush 0, .aload 0, .getfield 29779, .iload 1, .iaload, .i2l, .invokeinterface 1858 3, .ifCond .eq 11, .aload 0, .getfield 29819, .iload 4, .iload 5, .iadd, .iaload, .iload 3, .iload 3, .imul, .iload 5, .iload 5, .imul, .isub, .invokeinterface 1869 1, .isub, .goto 12]
def b1877_11 : List Instr := [.sipush 10000, .goto_w 12]
def b1877_12 : List Instr := [.istore 6, .aload 0, .getfield 29827, .iload 4, .iload 6, .aload 0, .getfield 29827, .iload 4, .iaload, .if_icmp .ge 13, .iload 6, .goto 14]
def b1877_13 : List Instr := [.aload 0, .getfield 29827, .iload 4, .iaload, .goto_w 14]
def b1877_14 : List Instr := [.iastore, .iinc 5 1, .goto 10]
def b1877_15 : List Instr := [.iinc 4 1, .goto 9]
def b1877_16 : List Instr := [.return_]
/-- TimberHouseModel$Turned.reachAll(II)V -/
def m1877 : pm_M := (fun j => [b1877_0, b1877_1, b1877_2, b1877_3, b1877_4, b1877_5, b1877_6, b1877_7, b1877_8, b1877_9, b1877_10, b1877_11, b1877_12, b1877_13, b1877_14, b1877_15, b1877_16].getD j [], fun _ => [], 29, 7)
def b1878_0 : List Instr := [.aload 0, .aload 0, .iload 1, .invokeinterface 1872 2, .ifCond .eq 1, .iload 2, .i2l, .bipush 0, .aload 0, .getfield 29800, .sipush 1, .isub, .i2l, .invokeinterface 1858 3, .ifCond .eq 1, .sipush 0, .goto 2]
def b1878_1 : List Instr := [.sipush 1, .goto_w 2]
def b1878_2 : List Instr := [.putfield 29696, .aload 0, .getfield 29696, .ifCond .le 3, .sipush 0, .jsr 0]
def b1878_3 : List Instr := [.aload 0, .iload 1, .iload 2, .invokeinterface 1877 3, .sipush 0, .istore 3, .sipush 0, .istore 4, .goto_w 4]
def b1878_4 : List Instr := [.iload 4, .aload 0, .getfield 29779, .iload 1, .iaload, .if_icmp .gt 7, .iload 3, .aload 0, .getfield 29827, .iload 4, .iaload, .aload 0, .getfield 29795, .sipush 65, .iload 1, .imul, .iload 4, .iadd, .iaload, .if_icmp .le 5, .sipush 1, .goto 6]
def b1878_5 : List Instr := [.sipush 0, .goto_w 6]
def b1878_6 : List Instr := [.iadd, .istore 3, .iinc 4 1, .goto 4]
def b1878_7 : List Instr := [.iload 3, .jsr 0]
/-- TimberHouseModel$Turned.left(II)I -/
def m1878 : pm_M := (fun j => [b1878_0, b1878_1, b1878_2, b1878_3, b1878_4, b1878_5, b1878_6, b1878_7].getD j [], fun _ => [], 29, 5)
def b1879_0 : List Instr := [.aload 0, .iload 1, .iload 2, .iload 3, .iload 4, .invokeinterface 1880 5, .aload 0, .getfield 29696, .ifCond .le 1, .sipush 0, .jsr 0]
def b1879_1 : List Instr := [.aload 0, .iload 1, .iload 2, .invokeinterface 1877 3, .sipush 0, .istore 5, .goto_w 2]
def b1879_2 : List Instr := [.aload 0, .iload 1, .iload 4, .aload 0, .iload 1, .invokeinterface 1874 2, .i2l, .iload 5, .i2l, .iload 3, .i2l, .lmul, .lsub, .invokeinterface 1881 4, .ifCond .le 3, .iinc 5 1, .goto 2]
def b1879_3 : List Instr := [.iload 5, .jsr 0]
/-- TimberHouseModel$Turned.passes(IIII)I -/
def m1879 : pm_M := (fun j => [b1879_0, b1879_1, b1879_2, b1879_3].getD j [], fun _ => [], 29, 6)
def b1880_0 : List Instr := [.aload 0, .aload 0, .iload 1, .invokeinterface 1872 2, .ifCond .eq 1, .iload 2, .i2l, .bipush 0, .aload 0, .getfield 29800, .sipush 1, .isub, .i2l, .invokeinterface 1858 3, .ifCond .ne 2, .goto_w 1]
def b1880_1 : List Instr := [.sipush 1, .goto 5]
def b1880_2 : List Instr := [.iload 3, .i2l, .bipush 1, .bipush 100, .invokeinterface 1858 3, .ifCond .eq 3, .iload 4, .i2l, .bipush 0, .bipush 50, .invokeinterface 1858 3, .ifCond .ne 4, .goto_w 3]
def b1880_3 : List Instr := [.sipush 2, .goto 5]
def b1880_4 : List Instr := [.sipush 0, .goto_w 5]
def b1880_5 : List Instr := [.putfield 29696, .return_]
/-- TimberHouseModel$Turned.lookRough(IIII)V -/
def m1880 : pm_M := (fun j => [b1880_0, b1880_1, b1880_2, b1880_3, b1880_4, b1880_5].getD j [], fun _ => [], 29, 5)
def b1881_0 : List Instr := [.sipush 0, .istore 5, .aload 0, .iload 1, .invokeinterface 1874 2, .istore 6, .sipush 0, .istore 7, .goto_w 1]
def b1881_1 : List Instr := [.iload 7, .aload 0, .getfield 29779, .iload 1, .iaload, .if_icmp .gt 6, .aload 0, .getfield 29827, .iload 7, .iaload, .iload 2, .iadd, .iload 6, .if_icmp .le 2, .iload 6, .goto 3]
def b1881_2 : List Instr := [.aload 0, .getfield 29827, .iload 7, .iaload, .iload 2, .iadd, .goto_w 3]
def b1881_3 : List Instr := [.istore 8, .iload 5, .iload 8, .i2l, .lload 3, .lcmp, .ifCond .ge 4, .sipush 1, .goto 5]
def b1881_4 : List Instr := [.sipush 0, .goto_w 5]
def b1881_5 : List Instr := [.iadd, .istore 5, .iinc 7 1, .goto 1]
def b1881_6 : List Instr := [.iload 5, .jsr 0]
/-- TimberHouseModel$Turned.wantedBelow(IIJ)I -/
def m1881 : pm_M := (fun j => [b1881_0, b1881_1, b1881_2, b1881_3, b1881_4, b1881_5, b1881_6].getD j [], fun _ => [], 29, 9)
def b1882_0 : List Instr := [.aload 0, .iload 1, .iload 2, .iload 3, .iload 4, .invokeinterface 1880 5, .aload 0, .aload 0, .getfield 29696, .ifCond .ne 1, .iload 5, .sipush 1, .if_icmp .ge 1, .sipush 2, .goto 2]
def b1882_1 : List Instr := [.aload 0, .getfield 29696, .goto_w 2]
def b1882_2 : List Instr := [.putfield 29696, .aload 0, .getfield 29696, .ifCond .le 3, .sipush 0, .jsr 0]
def b1882_3 : List Instr := [.aload 0, .iload 1, .iload 2, .invokeinterface 1877 3, .aload 0, .iload 1, .iload 4, .aload 0, .iload 1, .invokeinterface 1874 2, .i2l, .iload 5, .i2l, .bipush 1, .lsub, .iload 3, .i2l, .lmul, .lsub, .invokeinterface 1881 4, .jsr 0]
/-- TimberHouseModel$Turned.cut(IIIII)I -/
def m1882 : pm_M := (fun j => [b1882_0, b1882_1, b1882_2, b1882_3].getD j [], fun _ => [], 29, 6)
def b1883_0 : List Instr := [.aload 0, .aload 0, .iload 1, .invokeinterface 1872 2, .ifCond .ne 1, .sipush 1, .goto 4]
def b1883_1 : List Instr := [.iload 2, .i2l, .bipush 1, .bipush 500, .invokeinterface 1858 3, .ifCond .eq 2, .iload 3, .ifCond .ge 3, .goto_w 2]
def b1883_2 : List Instr := [.sipush 2, .goto 4]
def b1883_3 : List Instr := [.sipush 0, .goto_w 4]
def b1883_4 : List Instr := [.putfield 29696, .aload 0, .getfield 29696, .ifCond .le 5, .sipush 0, .jsr 0]
def b1883_5 : List Instr := [.aload 0, .iload 1, .iload 2, .sipush 0, .invokeinterface 1884 4, .istore 4, .sipush 0, .istore 5, .goto_w 6]
def b1883_6 : List Instr := [.iload 5, .iload 3, .if_icmp .ge 7, .iload 4, .aload 0, .getfield 29779, .iload 1, .iaload, .if_icmp .ge 7, .aload 0, .iload 1, .iload 2, .iload 4, .invokeinterface 1884 4, .istore 4, .iinc 5 1, .goto 6]
def b1883_7 : List Instr := [.aload 0, .iload 4, .aload 0, .getfield 29779, .iload 1, .iaload, .if_icmp .lt 8, .sipush 3, .goto 9]
def b1883_8 : List Instr := [.sipush 0, .goto_w 9]
def b1883_9 : List Instr := [.putfield 29696, .aload 0, .getfield 29696, .ifCond .le 10, .sipush 0, .goto 11]
def b1883_10 : List Instr := [.iload 4, .goto_w 11]
def b1883_11 : List Instr := [.jsr 0]
/-- TimberHouseModel$Turned.steady(III)I -/
def m1883 : pm_M := (fun j => [b1883_0, b1883_1, b1883_2, b1883_3, b1883_4, b1883_5, b1883_6, b1883_7, b1883_8, b1883_9, b1883_10, b1883_11].getD j [], fun _ => [], 29, 6)
def b1884_0 : List Instr := [.iload 3, .sipush 1, .iadd, .istore 4, .aload 0, .getfield 29795, .sipush 65, .iload 1, .imul, .iload 3, .iadd, .iaload, .istore 5, .iload 3, .sipush 1, .iadd, .istore 6, .goto_w 1]
def b1884_1 : List Instr := [.iload 6, .aload 0, .getfield 29779, .iload 1, .iaload, .if_icmp .gt 6, .aload 0, .getfield 29795, .sipush 65, .iload 1, .imul, .iload 6, .iadd, .iaload, .istore 7, .iload 7, .iload 5, .if_icmp .ge 2, .iload 7, .goto 3]
def b1884_2 : List Instr := [.iload 5, .goto_w 3]
def b1884_3 : List Instr := [.istore 5, .iload 6, .iload 3, .isub, .iload 2, .imul, .iload 5, .if_icmp .gt 4, .iload 6, .goto 5]
def b1884_4 : List Instr := [.iload 4, .goto_w 5]
def b1884_5 : List Instr := [.istore 4, .iinc 6 1, .goto 1]
def b1884_6 : List Instr := [.iload 4, .jsr 0]
/-- TimberHouseModel$Turned.nextHeld(III)I -/
def m1884 : pm_M := (fun j => [b1884_0, b1884_1, b1884_2, b1884_3, b1884_4, b1884_5, b1884_6].getD j [], fun _ => [], 29, 8)
def b1885_0 : List Instr := [.aload 0, .aload 0, .iload 1, .invokeinterface 1872 2, .ifCond .eq 1, .sipush 0, .goto 2]
def b1885_1 : List Instr := [.sipush 1, .goto_w 2]
def b1885_2 : List Instr := [.putfield 29696, .bipush 0, .lstore 3, .sipush 1, .istore 5, .goto_w 3]
def b1885_3 : List Instr := [.aload 0, .getfield 29696, .ifCond .ne 8, .iload 5, .aload 0, .getfield 29779, .iload 1, .iaload, .if_icmp .gt 8, .aload 0, .getfield 29795, .sipush 65, .iload 1, .imul, .iload 5, .iadd, .sipush 1, .isub, .iaload, .istore 6, .aload 0, .getfield 29795, .sipush 65, .iload 1, .imul, .iload 5, .iadd, .iaload, .istore 7, .iload 6, .iload 7, .if_icmp .ge 4, .sipush 1, .goto 5]
def b1885_4 : List Instr := [.sipush 0, .goto_w 5]
def b1885_5 : List Instr := [.iload 2, .if_icmp .ne 6, .iload 7, .goto 7]
def b1885_6 : List Instr := [.iload 6, .goto_w 7]
def b1885_7 : List Instr := [.istore 8, .lload 3, .iload 8, .i2l, .iload 8, .i2l, .lmul, .ladd, .lstore 3, .iinc 5 1, .goto 3]
def b1885_8 : List Instr := [.aload 0, .getfield 29696, .ifCond .le 9, .bipush 0, .goto 11]
def b1885_9 : List Instr := [.iload 2, .ifCond .eq 10, .lload 3, .bipush 314160, .lmul, .bipush 100000, .ldiv, .bipush 1, .ladd, .goto 11]
def b1885_10 : List Instr := [.lload 3, .bipush 314159, .lmul, .bipush 100000, .ldiv, .goto_w 11]
def b1885_11 : List Instr := [.lreturn]
/-- TimberHouseModel$Turned.volume(IZ)J -/
def m1885 : pm_M := (fun j => [b1885_0, b1885_1, b1885_2, b1885_3, b1885_4, b1885_5, b1885_6, b1885_7, b1885_8, b1885_9, b1885_10, b1885_11].getD j [], fun _ => [], 29, 9)
def b1886_0 : List Instr := [.aload 0, .aload 0, .iload 1, .invokeinterface 1872 2, .ifCond .ne 1, .sipush 1, .goto 4]
def b1886_1 : List Instr := [.iload 2, .i2l, .bipush 1, .bipush 100, .invokeinterface 1858 3, .ifCond .eq 2, .iload 3, .i2l, .bipush 0, .bipush 100, .invokeinterface 1858 3, .ifCond .ne 3, .goto_w 2]
def b1886_2 : List Instr := [.sipush 2, .goto 4]
def b1886_3 : List Instr := [.sipush 0, .goto_w 4]
def b1886_4 : List Instr := [.putfield 29696, .aload 0, .getfield 29696, .ifCond .le 5, .sipush 0, .jsr 0]
def b1886_5 : List Instr := [.sipush 0, .istore 4, .goto_w 6]
def b1886_6 : List Instr := [.iload 4, .aload 0, .getfield 29779, .iload 1, .iaload, .if_icmp .gt 7, .aload 0, .getfield 29795, .sipush 65, .iload 1, .imul, .aload 0, .getfield 29779, .iload 1, .iaload, .iadd, .iload 4, .isub, .iaload, .iload 2, .isub, .iload 3, .if_icmp .lt 7, .iinc 4 1, .goto 6]
def b1886_7 : List Instr := [.iload 4, .jsr 0]
/-- TimberHouseModel$Turned.hollow(III)I -/
def m1886 : pm_M := (fun j => [b1886_0, b1886_1, b1886_2, b1886_3, b1886_4, b1886_5, b1886_6, b1886_7].getD j [], fun _ => [], 29, 5)
def b1887_0 : List Instr := [.aload 0, .aload 0, .iload 1, .invokeinterface 1872 2, .ifCond .eq 1, .aload 0, .iload 2, .invokeinterface 1872 2, .ifCond .eq 1, .sipush 0, .goto 2]
def b1887_1 : List Instr := [.sipush 1, .goto_w 2]
def b1887_2 : List Instr := [.putfield 29696, .sipush 0, .istore 3, .sipush 0, .istore 4, .goto_w 3]
def b1887_3 : List Instr := [.aload 0, .getfield 29696, .ifCond .ne 8, .iload 4, .aload 0, .getfield 29779, .iload 1, .iaload, .if_icmp .gt 8, .iload 4, .aload 0, .getfield 29779, .iload 2, .iaload, .if_icmp .gt 8, .aload 0, .getfield 29795, .sipush 65, .iload 1, .imul, .iload 4, .iadd, .iaload, .aload 0, .getfield 29795, .sipush 65, .iload 2, .imul, .iload 4, .iadd, .iaload, .isub, .istore 5, .iload 5, .ifCond .ge 4, .iload 5, .ineg, .goto 5]
def b1887_4 : List Instr := [.iload 5, .goto_w 5]
def b1887_5 : List Instr := [.istore 5, .iload 5, .iload 3, .if_icmp .le 6, .iload 5, .goto 7]
def b1887_6 : List Instr := [.iload 3, .goto_w 7]
def b1887_7 : List Instr := [.istore 3, .iinc 4 1, .goto 3]
def b1887_8 : List Instr := [.iload 3, .jsr 0]
/-- TimberHouseModel$Turned.copy(II)I -/
def m1887 : pm_M := (fun j => [b1887_0, b1887_1, b1887_2, b1887_3, b1887_4, b1887_5, b1887_6, b1887_7, b1887_8].getD j [], fun _ => [], 29, 6)
def b1888_0 : List Instr := [.aload 0, .aload 0, .getfield 29832, .sipush 6, .if_icmp .ne 1, .sipush 1, .goto 2]
def b1888_1 : List Instr := [.sipush 0, .goto_w 2]
def b1888_2 : List Instr := [.putfield 29696, .aload 0, .getfield 29696, .ifCond .le 3, .sipush 0, .jsr 0]
def b1888_3 : List Instr := [.aload 0, .dup, .getfield 29832, .sipush 1, .iadd, .putfield 29832, .aload 0, .getfield 29832, .sipush 1, .isub, .jsr 0]
/-- TimberHouseModel$Turned.ring()I -/
def m1888 : pm_M := (fun j => [b1888_0, b1888_1, b1888_2, b1888_3].getD j [], fun _ => [], 29, 1)
def b1889_0 : List Instr := [.aload 0, .iload 1, .i2l, .bipush 0, .aload 0, .getfield 29832, .sipush 1, .isub, .i2l, .invokeinterface 1858 3, .ifCond .ne 1, .sipush 1, .goto 5]
def b1889_1 : List Instr := [.iload 2, .i2l, .bipush 1, .bipush 3600, .invokeinterface 1858 3, .ifCond .eq 2, .iload 3, .i2l, .bipush 1, .bipush 12, .invokeinterface 1858 3, .ifCond .ne 3, .goto_w 2]
def b1889_2 : List Instr := [.sipush 2, .goto 5]
def b1889_3 : List Instr := [.aload 0, .getfield 29843, .iload 1, .iaload, .sipush 16, .if_icmp .ne 4, .sipush 3, .goto 5]
def b1889_4 : List Instr := [.sipush 0, .goto_w 5]
def b1889_5 : List Instr := [.putfield 29696, .aload 0, .getfield 29696, .ifCond .le 6, .sipush 0, .jsr 0]
def b1889_6 : List Instr := [.aload 0, .getfield 29851, .sipush 16, .iload 1, .imul, .aload 0, .getfield 29843, .iload 1, .iaload, .iadd, .iload 2, .iastore, .aload 0, .getfield 29859, .sipush 16, .iload 1, .imul, .aload 0, .getfield 29843, .iload 1, .iaload, .iadd, .iload 3, .iastore, .aload 0, .getfield 29843, .iload 1, .dup2, .iaload, .sipush 1, .iadd, .iastore, .aload 0, .getfield 29843, .iload 1, .iaload, .jsr 0]
/-- TimberHouseModel$Turned.wedge(III)I -/
def m1889 : pm_M := (fun j => [b1889_0, b1889_1, b1889_2, b1889_3, b1889_4, b1889_5, b1889_6].getD j [], fun _ => [], 29, 4)
def b1890_0 : List Instr := [.iload 1, .i2l, .bipush 0, .aload 0, .getfield 29832, .sipush 1, .isub, .i2l, .invokeinterface 1858 3, .ifCond .eq 1, .iload 2, .i2l, .bipush 0, .aload 0, .getfield 29843, .iload 1, .iaload, .sipush 1, .isub, .i2l, .invokeinterface 1858 3, .ifCond .eq 1, .iload 3, .i2l, .bipush 0, .bipush 1, .invokeinterface 1858 3, .ifCond .eq 1, .sipush 1, .goto 2]
def b1890_1 : List Instr := [.sipush 0, .goto_w 2]
def b1890_2 : List Instr := [.istore 4, .aload 0, .iload 4, .ifCond .eq 3, .sipush 0, .goto 4]
def b1890_3 : List Instr := [.sipush 1, .goto_w 4]
def b1890_4 : List Instr := [.putfield 29696, .iload 4, .ifCond .eq 5, .aload 0, .getfield 29851, .sipush 16, .iload 1, .imul, .iload 2, .iadd, .iaload, .i2l, .bipush 2, .aload 0, .getfield 29859, .sipush 16, .iload 1, .imul, .iload 2, .iadd, .iaload, .i2l, .lmul, .iload 3, .invokeinterface 1891 3, .goto 6]
def b1890_5 : List Instr := [.bipush 0, .goto_w 6]
def b1890_6 : List Instr := [.lreturn]
/-- TimberHouseModel$Turned.mitre(III)J -/
def m1890 : pm_M := (fun j => [b1890_0, b1890_1, b1890_2, b1890_3, b1890_4, b1890_5, b1890_6].getD j [], fun _ => [], 29, 5)
def b1891_0 : List Instr := [.lload 0, .bipush 0, .lcmp, .ifCond .ge 1, .lload 0, .lneg, .goto 2]
def b1891_1 : List Instr := [.lload 0, .goto_w 2]
def b1891_2 : List Instr := [.lstore 5, .lload 2, .lstore 7, .goto_w 3]
def b1891_3 : List Instr := [.lload 7, .bipush 0, .lcmp, .ifCond .eq 4, .lload 5, .lload 7, .lrem, .lstore 9, .lload 7, .lstore 5, .lload 9, .lstore 7, .goto 3]
def b1891_4 : List Instr := [.iload 4, .ifCond .ne 5, .lload 0, .lload 5, .ldiv, .goto 6]
def b1891_5 : List Instr := [.lload 2, .lload 5, .ldiv, .goto_w 6]
def b1891_6 : List Instr := [.lreturn]
/-- TimberHouseModel$Turned.partOf(JJI)J -/
def m1891 : pm_M := (fun j => [b1891_0, b1891_1, b1891_2, b1891_3, b1891_4, b1891_5, b1891_6].getD j [], fun _ => [], 0, 11)
def b1892_0 : List Instr := [.aload 0, .iload 1, .i2l, .bipush 0, .aload 0, .getfield 29832, .sipush 1, .isub, .i2l, .invokeinterface 1858 3, .ifCond .eq 1, .iload 2, .i2l, .bipush 0, .bipush 1, .invokeinterface 1858 3, .ifCond .eq 1, .sipush 0, .goto 2]
def b1892_1 : List Instr := [.sipush 1, .goto_w 2]
def b1892_2 : List Instr := [.putfield 29696, .aload 0, .getfield 29696, .ifCond .le 3, .bipush 0, .goto 4]
def b1892_3 : List Instr := [.aload 0, .iload 1, .invokeinterface 1893 2, .bipush 27720, .iload 2, .invokeinterface 1891 3, .goto_w 4]
def b1892_4 : List Instr := [.lreturn]
/-- TimberHouseModel$Turned.gap(II)J -/
def m1892 : pm_M := (fun j => [b1892_0, b1892_1, b1892_2, b1892_3, b1892_4].getD j [], fun _ => [], 29, 3)
def b1893_0 : List Instr := [.bipush 9979200, .lstore 2, .sipush 0, .istore 4, .goto_w 1]
def b1893_1 : List Instr := [.iload 4, .aload 0, .getfield 29843, .iload 1, .iaload, .if_icmp .ge 2, .lload 2, .aload 0, .getfield 29851, .sipush 16, .iload 1, .imul, .iload 4, .iadd, .iaload, .i2l, .sipush 27720, .aload 0, .getfield 29859, .sipush 16, .iload 1, .imul, .iload 4, .iadd, .iaload, .idiv, .i2l, .lmul, .lsub, .lstore 2, .iinc 4 1, .goto 1]
def b1893_2 : List Instr := [.lload 2, .lreturn]
/-- TimberHouseModel$Turned.gapOf(I)J -/
def m1893 : pm_M := (fun j => [b1893_0, b1893_1, b1893_2].getD j [], fun _ => [], 29, 5)
def b1894_0 : List Instr := [.aload 0, .iload 1, .i2l, .bipush 0, .aload 0, .getfield 29832, .sipush 1, .isub, .i2l, .invokeinterface 1858 3, .ifCond .eq 1, .sipush 0, .goto 2]
def b1894_1 : List Instr := [.sipush 1, .goto_w 2]
def b1894_2 : List Instr := [.putfield 29696, .aload 0, .getfield 29696, .ifCond .ne 3, .aload 0, .iload 1, .invokeinterface 1893 2, .bipush 0, .lcmp, .ifCond .ne 3, .sipush 1, .goto 4]
def b1894_3 : List Instr := [.sipush 0, .goto_w 4]
def b1894_4 : List Instr := [.jsr 2]
/-- TimberHouseModel$Turned.closes(I)Z -/
def m1894 : pm_M := (fun j => [b1894_0, b1894_1, b1894_2, b1894_3, b1894_4].getD j [], fun _ => [], 29, 2)
def b1895_0 : List Instr := [.aload 0, .iload 3, .i2l, .bipush 0, .bipush 1, .invokeinterface 1858 3, .ifCond .ne 1, .sipush 1, .goto 4]
def b1895_1 : List Instr := [.iload 1, .i2l, .bipush 1, .bipush 1000, .invokeinterface 1858 3, .ifCond .eq 2, .iload 2, .i2l, .bipush 0, .iload 1, .sipush 1, .isub, .i2l, .invokeinterface 1858 3, .ifCond .ne 3, .goto_w 2]
def b1895_2 : List Instr := [.sipush 2, .goto 4]
def b1895_3 : List Instr := [.sipush 0, .goto_w 4]
def b1895_4 : List Instr := [.putfield 29696, .aload 0, .getfield 29696, .ifCond .le 5, .bipush 0, .goto 6]
def b1895_5 : List Instr := [.bipush 360, .iload 2, .i2l, .lmul, .iload 1, .i2l, .iload 3, .invokeinterface 1891 3, .goto_w 6]
def b1895_6 : List Instr := [.lreturn]
/-- TimberHouseModel$Turned.flute(III)J -/
def m1895 : pm_M := (fun j => [b1895_0, b1895_1, b1895_2, b1895_3, b1895_4, b1895_5, b1895_6].getD j [], fun _ => [], 29, 4)
def b1896_0 : List Instr := [.aload 0, .iload 1, .i2l, .bipush 1, .bipush 1000, .invokeinterface 1858 3, .ifCond .eq 1, .iload 2, .i2l, .bipush 1, .bipush 1000, .invokeinterface 1858 3, .ifCond .eq 1, .sipush 0, .goto 2]
def b1896_1 : List Instr := [.sipush 1, .goto_w 2]
def b1896_2 : List Instr := [.putfield 29696, .aload 0, .getfield 29696, .ifCond .ne 3, .aload 0, .iload 1, .putfield 29864, .aload 0, .iload 2, .putfield 29872, .goto_w 3]
def b1896_3 : List Instr := [.return_]
/-- TimberHouseModel$Turned.thread(II)V -/
def m1896 : pm_M := (fun j => [b1896_0, b1896_1, b1896_2, b1896_3].getD j [], fun _ => [], 29, 3)
def b1897_0 : List Instr := [.aload 0, .iload 2, .i2l, .bipush 0, .bipush 1, .invokeinterface 1858 3, .ifCond .ne 1, .sipush 1, .goto 4]
def b1897_1 : List Instr := [.iload 1, .i2l, .bipush 0, .bipush 100000, .invokeinterface 1858 3, .ifCond .ne 2, .sipush 2, .goto 4]
def b1897_2 : List Instr := [.aload 0, .getfield 29872, .ifCond .ne 3, .sipush 3, .goto 4]
def b1897_3 : List Instr := [.sipush 0, .goto_w 4]
def b1897_4 : List Instr := [.putfield 29696, .aload 0, .getfield 29696, .ifCond .le 5, .bipush 0, .goto 6]
def b1897_5 : List Instr := [.iload 1, .i2l, .aload 0, .getfield 29864, .i2l, .lmul, .aload 0, .getfield 29872, .i2l, .iload 2, .invokeinterface 1891 3, .goto_w 6]
def b1897_6 : List Instr := [.lreturn]
/-- TimberHouseModel$Turned.threadAt(II)J -/
def m1897 : pm_M := (fun j => [b1897_0, b1897_1, b1897_2, b1897_3, b1897_4, b1897_5, b1897_6].getD j [], fun _ => [], 29, 3)
def b1898_0 : List Instr := [.aload 0, .getfield 29880, .ifCond .eq 1, .iload 1, .aload 0, .getfield 29891, .aload 0, .getfield 29880, .sipush 1, .isub, .iaload, .if_icmp .le 2, .goto_w 1]
def b1898_1 : List Instr := [.sipush 1, .goto 3]
def b1898_2 : List Instr := [.sipush 0, .goto_w 3]
def b1898_3 : List Instr := [.istore 3, .aload 0, .iload 1, .i2l, .bipush 1, .bipush 500, .invokeinterface 1858 3, .ifCond .eq 4, .iload 3, .ifCond .eq 4, .iload 2, .i2l, .bipush 1, .bipush 10000, .invokeinterface 1858 3, .ifCond .ne 5, .goto_w 4]
def b1898_4 : List Instr := [.sipush 1, .goto 7]
def b1898_5 : List Instr := [.aload 0, .getfield 29880, .sipush 8, .if_icmp .ne 6, .sipush 2, .goto 7]
def b1898_6 : List Instr := [.sipush 0, .goto_w 7]
def b1898_7 : List Instr := [.putfield 29696, .aload 0, .getfield 29696, .ifCond .le 8, .sipush 0, .jsr 0]
def b1898_8 : List Instr := [.aload 0, .getfield 29891, .aload 0, .getfield 29880, .iload 1, .iastore, .aload 0, .getfield 29899, .aload 0, .getfield 29880, .iload 2, .iastore, .aload 0, .dup, .getfield 29880, .sipush 1, .iadd, .putfield 29880, .aload 0, .getfield 29880, .jsr 0]
/-- TimberHouseModel$Turned.row(II)I -/
def m1898 : pm_M := (fun j => [b1898_0, b1898_1, b1898_2, b1898_3, b1898_4, b1898_5, b1898_6, b1898_7, b1898_8].getD j [], fun _ => [], 29, 4)
def b1899_0 : List Instr := [.aload 0, .aload 0, .iload 1, .iload 2, .invokeinterface 1871 3, .ifCond .ne 1, .sipush 1, .goto 3]
def b1899_1 : List Instr := [.aload 0, .getfield 29880, .ifCond .ne 2, .sipush 2, .goto 3]
def b1899_2 : List Instr := [.sipush 0, .goto_w 3]
def b1899_3 : List Instr := [.putfield 29696, .aload 0, .getfield 29696, .ifCond .le 4, .sipush 0, .jsr 0]
def b1899_4 : List Instr := [.sipush 0, .istore 3, .goto_w 5]
def b1899_5 : List Instr := [.iload 3, .aload 0, .getfield 29880, .sipush 1, .isub, .if_icmp .ge 6, .aload 0, .getfield 29891, .iload 3, .iaload, .aload 0, .getfield 29795, .sipush 65, .iload 1, .imul, .iload 2, .iadd, .iaload, .if_icmp .ge 6, .iinc 3 1, .goto 5]
def b1899_6 : List Instr := [.aload 0, .getfield 29899, .iload 3, .iaload, .jsr 0]
/-- TimberHouseModel$Turned.speed(II)I -/
def m1899 : pm_M := (fun j => [b1899_0, b1899_1, b1899_2, b1899_3, b1899_4, b1899_5, b1899_6].getD j [], fun _ => [], 29, 4)
