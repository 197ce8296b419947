/-! the pure code of methods: mN: method N = 64 * (number of its class) + place; bN_j: its block j -/
def b0_0 : List Instr := [.new 1, .dup, .invokeinterface 64 1, .astore 1, .new 25, .dup, .invokeinterface 1600 1, .astore 2, .sipush 1, .newarray .long, .astore 3, .sipush 0, .istore 4, .goto_w 1]
def b0_1 : List Instr := [.iload 4, .aload 0, .arraylength, .sipush 8, .isub, .if_icmp .gt 15, .aload 0, .iload 4, .iaload, .sipush 15, .iand, .tableswitch 14 0 9 #[2, 5, 6, 7, 8, 9, 10, 11, 12, 13]]
def b0_2 : List Instr := [.aload 1, .aload 0, .iload 4, .sipush 1, .iadd, .iaload, .aload 0, .iload 4, .sipush 2, .iadd, .iaload, .aload 0, .iload 4, .sipush 3, .iadd, .iaload, .aload 0, .iload 4, .sipush 4, .iadd, .iaload, .aload 0, .iload 4, .sipush 5, .iadd, .iaload, .aload 0, .iload 4, .sipush 6, .iadd, .iaload, .aload 0, .iload 4, .sipush 7, .iadd, .iaload, .aload 3, .invokeinterface 1 9, .istore 5, .aload 2, .aload 0, .iload 4, .sipush 1, .iadd, .iaload, .aload 0, .iload 4, .sipush 2, .iadd, .iaload, .aload 0, .iload 4, .sipush 3, .iadd, .iaload, .aload 0, .iload 4, .sipush 4, .iadd, .iaload, .aload 0, .iload 4, .sipush 5, .iadd, .iaload, .aload 0, .iload 4, .sipush 6, .iadd, .iaload, .aload 0, .iload 4, .sipush 7, .iadd, .iaload, .invokeinterface 1602 8, .lstore 6, .aload 2, .invokeinterface 1601 1, .iload 5, .if_icmp .eq 3, .sipush 0, .jsr 2]
def b0_3 : List Instr := [.iload 5, .ifCond .ne 4, .aload 3, .sipush 0, .laload, .lload 6, .lcmp, .ifCond .eq 4, .sipush 0, .jsr 2]
def b0_4 : List Instr := [.goto 14]
def b0_5 : List Instr := [.aload 1, .aload 0, .iload 4, .sipush 1, .iadd, .iaload, .aload 0, .iload 4, .sipush 2, .iadd, .iaload, .invokeinterface 65 3, .aload 2, .aload 0, .iload 4, .sipush 1, .iadd, .iaload, .aload 0, .iload 4, .sipush 2, .iadd, .iaload, .invokeinterface 1615 3, .if_icmp .eq 14, .sipush 0, .jsr 2]
def b0_6 : List Instr := [.aload 1, .aload 0, .iload 4, .sipush 1, .iadd, .iaload, .invokeinterface 69 2, .aload 2, .aload 0, .iload 4, .sipush 1, .iadd, .iaload, .invokeinterface 1616 2, .if_icmp .eq 14, .sipush 0, .jsr 2]
def b0_7 : List Instr := [.aload 1, .aload 0, .iload 4, .sipush 1, .iadd, .iaload, .aload 0, .iload 4, .sipush 2, .iadd, .iaload, .invokeinterface 71 3, .aload 2, .aload 0, .iload 4, .sipush 1, .iadd, .iaload, .aload 0, .iload 4, .sipush 2, .iadd, .iaload, .invokeinterface 1617 3, .if_icmp .eq 14, .sipush 0, .jsr 2]
def b0_8 : List Instr := [.aload 1, .aload 0, .iload 4, .sipush 1, .iadd, .iaload, .aload 0, .iload 4, .sipush 2, .iadd, .iaload, .aload 0, .iload 4, .sipush 3, .iadd, .iaload, .aload 0, .iload 4, .sipush 4, .iadd, .iaload, .invokeinterface 75 5, .aload 2, .aload 0, .iload 4, .sipush 1, .iadd, .iaload, .aload 0, .iload 4, .sipush 2, .iadd, .iaload, .aload 0, .iload 4, .sipush 3, .iadd, .iaload, .aload 0, .iload 4, .sipush 4, .iadd, .iaload, .invokeinterface 1620 5, .if_icmp .eq 14, .sipush 0, .jsr 2]
def b0_9 : List Instr := [.aload 1, .aload 0, .iload 4, .sipush 1, .iadd, .iaload, .aload 0, .iload 4, .sipush 2, .iadd, .iaload, .invokeinterface 76 3, .aload 2, .aload 0, .iload 4, .sipush 1, .iadd, .iaload, .aload 0, .iload 4, .sipush 2, .iadd, .iaload, .invokeinterface 1621 3, .if_icmp .eq 14, .sipush 0, .jsr 2]
def b0_10 : List Instr := [.aload 1, .invokeinterface 81 1, .aload 2, .invokeinterface 1626 1, .if_icmp .eq 14, .sipush 0, .jsr 2]
def b0_11 : List Instr := [.aload 1, .aload 0, .iload 4, .sipush 1, .iadd, .iaload, .aload 0, .iload 4, .sipush 2, .iadd, .iaload, .invokeinterface 83 3, .aload 2, .aload 0, .iload 4, .sipush 1, .iadd, .iaload, .aload 0, .iload 4, .sipush 2, .iadd, .iaload, .invokeinterface 1628 3, .if_icmp .eq 14, .sipush 0, .jsr 2]
def b0_12 : List Instr := [.aload 1, .aload 0, .iload 4, .sipush 1, .iadd, .iaload, .invokeinterface 84 2, .aload 2, .aload 0, .iload 4, .sipush 1, .iadd, .iaload, .invokeinterface 1629 2, .if_icmp .eq 14, .sipush 0, .jsr 2]
def b0_13 : List Instr := [.aload 1, .aload 0, .iload 4, .sipush 1, .iadd, .iaload, .invokeinterface 85 2, .aload 2, .aload 0, .iload 4, .sipush 1, .iadd, .iaload, .invokeinterface 1630 2, .if_icmp .eq 14, .sipush 0, .jsr 2]
def b0_14 : List Instr := [.iinc 4 8, .goto 1]
def b0_15 : List Instr := [.sipush 1, .jsr 2]
/-- TimberHouseLaw.law([I)Z -/
def m0 : pm_M := (fun j => [b0_0, b0_1, b0_2, b0_3, b0_4, b0_5, b0_6, b0_7, b0_8, b0_9, b0_10, b0_11, b0_12, b0_13, b0_14, b0_15].getD j [], fun _ => [], 1000, 8)
def b1_0 : List Instr := [.aload 8, .sipush 0, .aload 0, .iload 1, .iload 2, .iload 3, .iload 4, .iload 5, .iload 6, .iload 7, .invokeinterface 86 8, .lastore, .goto_w 1]
def b1_1 : List Instr := [.goto 5]
def b1_2 : List Instr := [.sipush 1, .jsr 0]
def b1_3 : List Instr := [.sipush 2, .jsr 0]
def b1_4 : List Instr := [.sipush 3, .jsr 0]
def b1_5 : List Instr := [.sipush 0, .jsr 0]
/-- TimberHouseLaw.act(LTimberHouse;IIIIIII[J)I -/
def m1 : pm_M := (fun j => [b1_0, b1_1, b1_2, b1_3, b1_4, b1_5].getD j [], fun j => [[([67], 2, 9), ([70], 3, 9), ([71], 4, 9)], [], [], [], [], []].getD j [], 0, 10)
def b64_0 : List Instr := [.aload 0, .f2i, .aload 0, .new 2, .dup, .sipush 12, .sipush 1, .invokeinterface 128 3, .putfield 1027, .aload 0, .new 4, .dup, .sipush 100, .sipush 240, .sipush 10, .invokeinterface 256 4, .putfield 1035, .aload 0, .new 8, .dup, .sipush 10, .sipush 10, .invokeinterface 512 3, .putfield 1043, .aload 0, .new 10, .dup, .invokeinterface 640 1, .putfield 1051, .aload 0, .new 11, .dup, .invokeinterface 704 1, .putfield 1059, .aload 0, .new 13, .dup, .sipush 0, .sipush 3, .sipush 2, .invokeinterface 832 4, .putfield 1067, .aload 0, .new 16, .dup, .sipush 20, .invokeinterface 1024 2, .putfield 1075, .aload 0, .new 20, .dup, .sipush 1, .invokeinterface 1280 2, .putfield 1083, .aload 0, .new 22, .dup, .invokeinterface 1408 1, .putfield 1091, .aload 0, .new 24, .dup, .invokeinterface 1536 1, .putfield 1099, .aload 0, .sipush 10, .newarray .int, .putfield 1107, .aload 0, .sipush 20, .putfield 1112, .return_]
/-- TimberHouse.<init>()V -/
def m64 : pm_M := (fun j => [b64_0].getD j [], fun _ => [], 1, 1)
def b65_0 : List Instr := [.iload 2, .sipush 10, .if_icmp .lt 1, .iload 2, .sipush 240, .if_icmp .gt 1, .aload 0, .getfield 1107, .sipush 1, .iaload, .sipush 4, .if_icmp .ne 2, .goto_w 1]
def b65_1 : List Instr := [.sipush (-1), .jsr 0]
def b65_2 : List Instr := [.aload 0, .getfield 1027, .iload 1, .sipush 3, .invokeinterface 129 3, .istore 4, .aload 0, .getfield 1027, .iload 1, .sipush 4, .invokeinterface 129 3, .istore 5, .iload 4, .iload 5, .if_icmp .le 3, .iload 4, .goto 4]
def b65_3 : List Instr := [.iload 5, .goto_w 4]
def b65_4 : List Instr := [.istore 3, .goto_w 5]
def b65_5 : List Instr := [.goto 8]
def b65_6 : List Instr := [.sipush (-1), .jsr 0]
def b65_7 : List Instr := [.sipush (-1), .jsr 0]
def b65_8 : List Instr := [.aload 0, .sipush 1, .sipush 10, .iload 3, .imul, .iload 2, .sipush 10, .invokeinterface 66 5, .l2i, .jsr 0]
/-- TimberHouse.rip(II)I -/
def m65 : pm_M := (fun j => [b65_0, b65_1, b65_2, b65_3, b65_4, b65_5, b65_6, b65_7, b65_8].getD j [], fun j => [[], [], [([71], 6, 4), ([67], 7, 4)], [([71], 6, 4), ([67], 7, 4)], [([71], 6, 4), ([67], 7, 4)], [], [], [], []].getD j [], 1, 6)
def b66_0 : List Instr := [.aload 0, .iload 1, .invokeinterface 67 2, .ifCond .ne 1, .bipush 0, .lreturn]
def b66_1 : List Instr := [.aload 0, .iload 1, .iload 2, .iload 3, .iload 4, .invokeinterface 68 5, .bipush 1, .lreturn]
/-- TimberHouse.anew(IIII)J -/
def m66 : pm_M := (fun j => [b66_0, b66_1].getD j [], fun _ => [], 1, 5)
def b67_0 : List Instr := [.aload 0, .getfield 1107, .iload 1, .iaload, .sipush 4, .if_icmp .ne 1, .sipush 0, .jsr 2]
def b67_1 : List Instr := [.aload 0, .getfield 1107, .iload 1, .dup2, .iaload, .sipush 1, .iadd, .iastore, .sipush 1, .jsr 2]
/-- TimberHouse.mayMake(I)Z -/
def m67 : pm_M := (fun j => [b67_0, b67_1].getD j [], fun _ => [], 1, 2)
def b68_0 : List Instr := [.iload 1, .tableswitch 13 0 8 #[1, 2, 3, 4, 5, 6, 7, 11, 12]]
def b68_1 : List Instr := [.aload 0, .new 2, .dup, .iload 2, .iload 3, .invokeinterface 128 3, .putfield 1027, .goto 14]
def b68_2 : List Instr := [.aload 0, .new 4, .dup, .iload 2, .iload 3, .iload 4, .invokeinterface 256 4, .putfield 1035, .goto 14]
def b68_3 : List Instr := [.aload 0, .new 8, .dup, .iload 2, .iload 3, .invokeinterface 512 3, .putfield 1043, .goto 14]
def b68_4 : List Instr := [.aload 0, .new 10, .dup, .invokeinterface 640 1, .putfield 1051, .goto 14]
def b68_5 : List Instr := [.aload 0, .new 11, .dup, .invokeinterface 704 1, .putfield 1059, .goto 14]
def b68_6 : List Instr := [.aload 0, .new 13, .dup, .iload 2, .iload 3, .iload 4, .invokeinterface 832 4, .putfield 1067, .goto 14]
def b68_7 : List Instr := [.aload 0, .new 16, .dup, .iload 2, .invokeinterface 1024 2, .putfield 1075, .aload 0, .iload 2, .sipush 2, .if_icmp .ge 8, .sipush 2, .goto 10]
def b68_8 : List Instr := [.iload 2, .sipush 20, .if_icmp .le 9, .sipush 20, .goto 10]
def b68_9 : List Instr := [.iload 2, .goto_w 10]
def b68_10 : List Instr := [.putfield 1112, .goto 14]
def b68_11 : List Instr := [.aload 0, .new 20, .dup, .iload 2, .invokeinterface 1280 2, .putfield 1083, .goto 14]
def b68_12 : List Instr := [.aload 0, .new 22, .dup, .invokeinterface 1408 1, .putfield 1091, .goto 14]
def b68_13 : List Instr := [.aload 0, .new 24, .dup, .invokeinterface 1536 1, .putfield 1099, .goto_w 14]
def b68_14 : List Instr := [.return_]
/-- TimberHouse.make(IIII)V -/
def m68 : pm_M := (fun j => [b68_0, b68_1, b68_2, b68_3, b68_4, b68_5, b68_6, b68_7, b68_8, b68_9, b68_10, b68_11, b68_12, b68_13, b68_14].getD j [], fun _ => [], 1, 5)
def b69_0 : List Instr := [.iload 1, .ifCond .ge 1, .sipush (-1), .jsr 0]
def b69_1 : List Instr := [.sipush 0, .istore 2, .goto_w 2]
def b69_2 : List Instr := [.aload 0, .getfield 1035, .sipush (-1), .sipush 0, .invokeinterface 258 3, .istore 3, .sipush 1, .istore 4, .sipush 0, .istore 5, .goto_w 3]
def b69_3 : List Instr := [.iload 5, .iload 3, .if_icmp .ge 7, .iload 4, .ifCond .eq 7, .aload 0, .getfield 1035, .iload 5, .sipush 2, .invokeinterface 258 3, .istore 6, .iload 6, .iload 1, .if_icmp .lt 6, .aload 0, .iload 6, .aload 0, .getfield 1035, .iload 5, .sipush 4, .invokeinterface 258 3, .invokeinterface 70 3, .istore 4, .iload 4, .ifCond .eq 4, .iload 2, .sipush 1, .iadd, .goto 5]
def b69_4 : List Instr := [.iload 2, .goto_w 5]
def b69_5 : List Instr := [.istore 2, .goto_w 6]
def b69_6 : List Instr := [.iinc 5 1, .goto 3]
def b69_7 : List Instr := [.goto 9]
def b69_8 : List Instr := [.sipush (-1), .jsr 0]
def b69_9 : List Instr := [.iload 2, .jsr 0]
/-- TimberHouse.fingers(I)I -/
def m69 : pm_M := (fun j => [b69_0, b69_1, b69_2, b69_3, b69_4, b69_5, b69_6, b69_7, b69_8, b69_9].getD j [], fun j => [[], [], [([71], 8, 3)], [([71], 8, 3)], [([71], 8, 3)], [([71], 8, 3)], [([71], 8, 3)], [], [], []].getD j [], 1, 7)
def b70_0 : List Instr := [.aload 0, .getfield 1043, .sipush 10, .iload 1, .imul, .iload 2, .invokeinterface 514 3, .pop, .goto_w 1]
def b70_1 : List Instr := [.goto 4]
def b70_2 : List Instr := [.sipush 0, .jsr 2]
def b70_3 : List Instr := [.sipush 0, .jsr 2]
def b70_4 : List Instr := [.sipush 1, .jsr 2]
/-- TimberHouse.join(II)Z -/
def m70 : pm_M := (fun j => [b70_0, b70_1, b70_2, b70_3, b70_4].getD j [], fun j => [[([71], 2, 3), ([70], 3, 3)], [], [], [], []].getD j [], 1, 4)
def b71_0 : List Instr := [.aload 0, .sipush 5, .invokeinterface 72 2, .istore 3, .goto_w 1]
def b71_1 : List Instr := [.goto 3]
def b71_2 : List Instr := [.sipush (-1), .jsr 0]
def b71_3 : List Instr := [.aload 0, .iload 1, .iload 2, .iload 3, .sipush 59, .iadd, .sipush 60, .idiv, .invokeinterface 74 4, .jsr 0]
/-- TimberHouse.hours(II)I -/
def m71 : pm_M := (fun j => [b71_0, b71_1, b71_2, b71_3].getD j [], fun j => [[([71], 2, 4)], [], [], []].getD j [], 1, 5)
def b72_0 : List Instr := [.sipush 0, .istore 2, .aload 0, .invokeinterface 73 1, .istore 3, .sipush 0, .istore 4, .goto_w 1]
def b72_1 : List Instr := [.iload 4, .iload 3, .if_icmp .ge 2, .iload 2, .aload 0, .getfield 1067, .iload 4, .iload 1, .invokeinterface 834 3, .iadd, .istore 2, .iinc 4 1, .goto 1]
def b72_2 : List Instr := [.iload 2, .jsr 0]
/-- TimberHouse.sum(I)I -/
def m72 : pm_M := (fun j => [b72_0, b72_1, b72_2].getD j [], fun _ => [], 1, 5)
def b73_0 : List Instr := [.sipush 0, .istore 1, .goto_w 1]
def b73_1 : List Instr := [.iload 1, .sipush 20, .if_icmp .ge 2, .aload 0, .getfield 1067, .iload 1, .sipush 0, .invokeinterface 834 3, .istore 2, .iinc 1 1, .goto 1]
def b73_2 : List Instr := [.goto 4]
def b73_3 : List Instr := [.iload 1, .jsr 0]
def b73_4 : List Instr := [.iload 1, .jsr 0]
/-- TimberHouse.sheetsCut()I -/
def m73 : pm_M := (fun j => [b73_0, b73_1, b73_2, b73_3, b73_4].getD j [], fun j => [[], [([67], 3, 2)], [], [], []].getD j [], 1, 3)
def b74_0 : List Instr := [.iload 3, .sipush 1, .if_icmp .ge 1, .sipush 1, .goto 3]
def b74_1 : List Instr := [.iload 3, .sipush 100, .if_icmp .le 2, .sipush 100, .goto 3]
def b74_2 : List Instr := [.iload 3, .goto_w 3]
def b74_3 : List Instr := [.istore 4, .goto_w 4]
def b74_4 : List Instr := [.aload 0, .getfield 1083, .iload 1, .iload 2, .iload 4, .sipush 0, .invokeinterface 1281 5, .goto_w 5]
def b74_5 : List Instr := [.jsr 0]
def b74_6 : List Instr := [.sipush (-1), .jsr 0]
def b74_7 : List Instr := [.sipush (-1), .jsr 0]
def b74_8 : List Instr := [.sipush (-1), .jsr 0]
/-- TimberHouse.step(III)I -/
def m74 : pm_M := (fun j => [b74_0, b74_1, b74_2, b74_3, b74_4, b74_5, b74_6, b74_7, b74_8].getD j [], fun j => [[], [], [], [], [([67], 6, 5), ([70], 7, 5), ([71], 8, 5)], [], [], [], []].getD j [], 1, 6)
def b75_0 : List Instr := [.aload 0, .getfield 1051, .iload 1, .iload 2, .sipush 10, .sipush 1, .invokeinterface 641 5, .istore 5, .goto_w 1]
def b75_1 : List Instr := [.goto 3]
def b75_2 : List Instr := [.sipush (-1), .jsr 0]
def b75_3 : List Instr := [.aload 0, .iload 3, .iload 4, .iload 5, .invokeinterface 74 4, .jsr 0]
/-- TimberHouse.passes(IIII)I -/
def m75 : pm_M := (fun j => [b75_0, b75_1, b75_2, b75_3].getD j [], fun j => [[([67], 2, 6)], [], [], []].getD j [], 1, 7)
def b76_0 : List Instr := [.iload 2, .ifCond .lt 1, .iload 2, .sipush 99, .if_icmp .le 2, .goto_w 1]
def b76_1 : List Instr := [.sipush (-1), .jsr 0]
def b76_2 : List Instr := [.aload 0, .getfield 1067, .iload 1, .sipush 1, .invokeinterface 834 3, .istore 3, .goto_w 3]
def b76_3 : List Instr := [.goto 6]
def b76_4 : List Instr := [.sipush (-1), .jsr 0]
def b76_5 : List Instr := [.sipush (-1), .jsr 0]
def b76_6 : List Instr := [.sipush 0, .istore 4, .sipush 1, .istore 5, .sipush 0, .istore 6, .goto_w 7]
def b76_7 : List Instr := [.iload 6, .iload 3, .if_icmp .ge 11, .iload 5, .ifCond .eq 11, .aload 0, .getfield 1067, .iload 1, .iload 6, .sipush 1, .invokeinterface 839 4, .istore 7, .aload 0, .getfield 1067, .iload 1, .iload 6, .sipush 2, .invokeinterface 839 4, .istore 8, .aload 0, .getfield 1067, .iload 1, .iload 6, .sipush 3, .invokeinterface 839 4, .istore 9, .iload 7, .iload 9, .iadd, .aload 0, .getfield 1112, .if_icmp .gt 10, .iload 8, .aload 0, .getfield 1112, .if_icmp .ge 10, .aload 0, .iload 7, .iload 8, .iload 9, .iload 2, .invokeinterface 77 5, .istore 5, .iload 5, .ifCond .eq 8, .iload 4, .sipush 1, .iadd, .goto 9]
def b76_8 : List Instr := [.iload 4, .goto_w 9]
def b76_9 : List Instr := [.istore 4, .goto_w 10]
def b76_10 : List Instr := [.iinc 6 1, .goto 7]
def b76_11 : List Instr := [.aload 0, .dup, .getfield 1120, .iload 4, .iadd, .putfield 1120, .iload 4, .jsr 0]
/-- TimberHouse.route(II)I -/
def m76 : pm_M := (fun j => [b76_0, b76_1, b76_2, b76_3, b76_4, b76_5, b76_6, b76_7, b76_8, b76_9, b76_10, b76_11].getD j [], fun j => [[], [], [([71], 4, 4), ([67], 5, 4)], [], [], [], [], [], [], [], [], []].getD j [], 1, 10)
def b77_0 : List Instr := [.aload 0, .sipush 0, .sipush 88, .iload 1, .invokeinterface 78 4, .ifCond .eq 1, .aload 0, .sipush 89, .invokeinterface 79 2, .ifCond .eq 1, .aload 0, .iload 2, .invokeinterface 80 2, .ifCond .eq 1, .aload 0, .sipush 59, .invokeinterface 79 2, .ifCond .eq 1, .aload 0, .sipush 1, .sipush 90, .iload 4, .invokeinterface 78 4, .ifCond .eq 1, .aload 0, .sipush 59, .invokeinterface 79 2, .ifCond .eq 1, .aload 0, .sipush 1, .sipush 88, .iload 1, .iload 3, .iadd, .sipush 1, .isub, .invokeinterface 78 4, .ifCond .eq 1, .aload 0, .sipush 59, .invokeinterface 79 2, .ifCond .eq 1, .aload 0, .sipush 0, .sipush 90, .sipush 100, .invokeinterface 78 4, .ifCond .eq 1, .aload 0, .sipush 59, .invokeinterface 79 2, .ifCond .eq 1, .sipush 1, .goto 2]
def b77_1 : List Instr := [.sipush 0, .goto_w 2]
def b77_2 : List Instr := [.jsr 2]
/-- TimberHouse.writePart(IIII)Z -/
def m77 : pm_M := (fun j => [b77_0, b77_1, b77_2].getD j [], fun _ => [], 1, 5)
def b78_0 : List Instr := [.aload 0, .sipush 71, .invokeinterface 79 2, .ifCond .eq 1, .aload 0, .sipush 48, .iload 1, .iadd, .invokeinterface 79 2, .ifCond .eq 1, .aload 0, .iload 2, .invokeinterface 79 2, .ifCond .eq 1, .aload 0, .iload 3, .invokeinterface 80 2, .ifCond .eq 1, .sipush 1, .goto 2]
def b78_1 : List Instr := [.sipush 0, .goto_w 2]
def b78_2 : List Instr := [.jsr 2]
/-- TimberHouse.writeWord(III)Z -/
def m78 : pm_M := (fun j => [b78_0, b78_1, b78_2].getD j [], fun _ => [], 1, 4)
def b79_0 : List Instr := [.aload 0, .getfield 1075, .iload 1, .invokeinterface 1025 2, .jsr 2]
/-- TimberHouse.write(I)Z -/
def m79 : pm_M := (fun j => [b79_0].getD j [], fun _ => [], 1, 2)
def b80_0 : List Instr := [.iload 1, .sipush 100, .if_icmp .lt 1, .aload 0, .sipush 48, .iload 1, .sipush 100, .idiv, .iadd, .invokeinterface 79 2, .ifCond .eq 3, .goto_w 1]
def b80_1 : List Instr := [.iload 1, .sipush 10, .if_icmp .lt 2, .aload 0, .sipush 48, .iload 1, .sipush 10, .idiv, .sipush 10, .irem, .iadd, .invokeinterface 79 2, .ifCond .eq 3, .goto_w 2]
def b80_2 : List Instr := [.aload 0, .sipush 48, .iload 1, .sipush 10, .irem, .iadd, .invokeinterface 79 2, .ifCond .eq 3, .sipush 1, .goto 4]
def b80_3 : List Instr := [.sipush 0, .goto_w 4]
def b80_4 : List Instr := [.jsr 2]
/-- TimberHouse.writeNumber(I)Z -/
def m80 : pm_M := (fun j => [b80_0, b80_1, b80_2, b80_3, b80_4].getD j [], fun _ => [], 1, 2)
def b81_0 : List Instr := [.sipush 0, .istore 1, .sipush 97, .istore 2, .goto_w 1]
def b81_1 : List Instr := [.iload 2, .sipush 101, .if_icmp .gt 10, .sipush 0, .istore 3, .goto_w 2]
def b81_2 : List Instr := [.aload 0, .iload 2, .invokeinterface 82 2, .lstore 4, .lload 4, .bipush (-1000000), .lcmp, .ifCond .lt 5, .lload 4, .bipush 1000000, .lcmp, .ifCond .gt 5, .aload 0, .getfield 1091, .iload 2, .lload 4, .l2i, .iload 2, .sipush 98, .if_icmp .ne 3, .sipush 1, .goto 4]
def b81_3 : List Instr := [.sipush 100, .goto_w 4]
def b81_4 : List Instr := [.invokeinterface 1409 4, .sipush 1, .istore 3, .goto_w 5]
def b81_5 : List Instr := [.goto 7]
def b81_6 : List Instr := [.sipush 0, .istore 3, .goto_w 7]
def b81_7 : List Instr := [.iload 3, .ifCond .eq 8, .iinc 1 1, .goto 9]
def b81_8 : List Instr := [.aload 0, .getfield 1091, .iload 2, .invokeinterface 1416 2, .pop, .goto_w 9]
def b81_9 : List Instr := [.iinc 2 1, .goto 1]
def b81_10 : List Instr := [.iload 1, .jsr 0]
/-- TimberHouse.facts()I -/
def m81 : pm_M := (fun j => [b81_0, b81_1, b81_2, b81_3, b81_4, b81_5, b81_6, b81_7, b81_8, b81_9, b81_10].getD j [], fun j => [[], [], [([71], 6, 4)], [([71], 6, 4)], [([71], 6, 4)], [], [], [], [], [], []].getD j [], 1, 6)
def b82_0 : List Instr := [.iload 1, .tableswitch 5 97 100 #[1, 2, 3, 4]]
def b82_1 : List Instr := [.aload 0, .getfield 1067, .sipush 0, .invokeinterface 840 2, .lreturn]
def b82_2 : List Instr := [.aload 0, .getfield 1083, .sipush 0, .invokeinterface 1286 2, .lreturn]
def b82_3 : List Instr := [.aload 0, .getfield 1043, .sipush 0, .invokeinterface 519 2, .lreturn]
def b82_4 : List Instr := [.aload 0, .getfield 1035, .invokeinterface 263 1, .lreturn]
def b82_5 : List Instr := [.aload 0, .getfield 1027, .sipush 0, .invokeinterface 134 2, .i2l, .lreturn]
/-- TimberHouse.asked(I)J -/
def m82 : pm_M := (fun j => [b82_0, b82_1, b82_2, b82_3, b82_4, b82_5].getD j [], fun _ => [], 1, 2)
def b83_0 : List Instr := [.aload 0, .getfield 1091, .iload 1, .iload 2, .invokeinterface 1417 3, .lstore 3, .goto_w 1]
def b83_1 : List Instr := [.goto 5]
def b83_2 : List Instr := [.sipush (-1), .jsr 0]
def b83_3 : List Instr := [.sipush (-1), .jsr 0]
def b83_4 : List Instr := [.sipush (-1), .jsr 0]
def b83_5 : List Instr := [.lload 3, .bipush (-1000000000), .lcmp, .ifCond .lt 6, .lload 3, .bipush 1000000000, .lcmp, .ifCond .le 7, .goto_w 6]
def b83_6 : List Instr := [.sipush (-1), .jsr 0]
def b83_7 : List Instr := [.aload 0, .getfield 1099, .iload 2, .invokeinterface 1537 2, .istore 6, .aload 0, .getfield 1099, .iload 6, .sipush 0, .lload 3, .invokeinterface 1541 4, .pop, .aload 0, .getfield 1099, .iload 6, .sipush 1, .lload 3, .lneg, .invokeinterface 1541 4, .pop, .aload 0, .getfield 1099, .iload 6, .invokeinterface 1544 2, .istore 5, .goto_w 8]
def b83_8 : List Instr := [.goto 11]
def b83_9 : List Instr := [.sipush (-1), .jsr 0]
def b83_10 : List Instr := [.sipush (-1), .jsr 0]
def b83_11 : List Instr := [.iload 5, .ifCond .ne 12, .sipush (-1), .jsr 0]
def b83_12 : List Instr := [.aload 0, .dup, .getfield 1128, .sipush 1, .iadd, .putfield 1128, .iload 5, .jsr 0]
/-- TimberHouse.book(II)I -/
def m83 : pm_M := (fun j => [b83_0, b83_1, b83_2, b83_3, b83_4, b83_5, b83_6, b83_7, b83_8, b83_9, b83_10, b83_11, b83_12].getD j [], fun j => [[([67], 2, 5), ([70], 3, 5), ([71], 4, 5)], [], [], [], [], [], [], [([70], 9, 6), ([71], 10, 6)], [], [], [], [], []].getD j [], 1, 7)
def b84_0 : List Instr := [.aload 0, .sipush 1, .invokeinterface 72 2, .istore 2, .aload 0, .getfield 1099, .sipush 5, .aload 0, .getfield 1136, .sipush 1, .iadd, .i2l, .sipush 9, .sipush 0, .iload 2, .i2l, .iload 1, .i2l, .invokeinterface 1546 7, .istore 3, .goto_w 1]
def b84_1 : List Instr := [.goto 3]
def b84_2 : List Instr := [.sipush (-1), .jsr 0]
def b84_3 : List Instr := [.iload 3, .ifCond .ne 4, .sipush (-1), .jsr 0]
def b84_4 : List Instr := [.aload 0, .dup, .getfield 1136, .sipush 1, .iadd, .putfield 1136, .aload 0, .getfield 1136, .jsr 0]
/-- TimberHouse.stock(I)I -/
def m84 : pm_M := (fun j => [b84_0, b84_1, b84_2, b84_3, b84_4].getD j [], fun j => [[([71], 2, 4)], [], [], [], []].getD j [], 1, 5)
def b85_0 : List Instr := [.iload 1, .ifCond .lt 1, .iload 1, .sipush 3, .if_icmp .le 2, .goto_w 1]
def b85_1 : List Instr := [.sipush (-1), .jsr 0]
def b85_2 : List Instr := [.sipush 0, .istore 2, .sipush 0, .istore 3, .goto_w 3]
def b85_3 : List Instr := [.iload 3, .sipush 10, .if_icmp .ge 4, .iload 2, .aload 0, .getfield 1107, .iload 3, .iaload, .iadd, .istore 2, .iinc 3 1, .goto 3]
def b85_4 : List Instr := [.iload 1, .ifCond .ne 5, .iload 2, .goto 8]
def b85_5 : List Instr := [.iload 1, .sipush 1, .if_icmp .ne 6, .aload 0, .getfield 1120, .goto 8]
def b85_6 : List Instr := [.iload 1, .sipush 2, .if_icmp .ne 7, .aload 0, .getfield 1128, .goto 8]
def b85_7 : List Instr := [.aload 0, .getfield 1136, .goto_w 8]
def b85_8 : List Instr := [.jsr 0]
/-- TimberHouse.whole(I)I -/
def m85 : pm_M := (fun j => [b85_0, b85_1, b85_2, b85_3, b85_4, b85_5, b85_6, b85_7, b85_8].getD j [], fun _ => [], 1, 4)
def b86_0 : List Instr := [.iload 1, .ifCond .lt 1, .iload 1, .sipush 1000, .if_icmp .lt 2, .goto_w 1]
def b86_1 : List Instr := [.bipush (-9000000000000000000), .lreturn]
def b86_2 : List Instr := [.iload 1, .sipush 100, .idiv, .istore 8, .iload 1, .sipush 100, .irem, .istore 9, .iload 9, .ifCond .ne 3, .aload 0, .iload 8, .iload 2, .iload 3, .iload 4, .invokeinterface 66 5, .lreturn]
def b86_3 : List Instr := [.iload 8, .tableswitch 13 0 8 #[4, 5, 6, 7, 8, 9, 10, 11, 12]]
def b86_4 : List Instr := [.aload 0, .iload 9, .iload 2, .iload 3, .iload 4, .iload 5, .iload 6, .iload 7, .invokeinterface 87 8, .lreturn]
def b86_5 : List Instr := [.aload 0, .iload 9, .iload 2, .iload 3, .iload 4, .iload 5, .iload 6, .iload 7, .invokeinterface 88 8, .lreturn]
def b86_6 : List Instr := [.aload 0, .iload 9, .iload 2, .iload 3, .iload 4, .iload 5, .iload 6, .iload 7, .invokeinterface 89 8, .lreturn]
def b86_7 : List Instr := [.aload 0, .iload 9, .iload 2, .iload 3, .iload 4, .iload 5, .iload 6, .iload 7, .invokeinterface 90 8, .lreturn]
def b86_8 : List Instr := [.aload 0, .iload 9, .iload 2, .iload 3, .iload 4, .iload 5, .iload 6, .iload 7, .invokeinterface 91 8, .lreturn]
def b86_9 : List Instr := [.aload 0, .iload 9, .iload 2, .iload 3, .iload 4, .iload 5, .iload 6, .iload 7, .invokeinterface 92 8, .lreturn]
def b86_10 : List Instr := [.aload 0, .iload 9, .iload 2, .iload 3, .iload 4, .iload 5, .iload 6, .iload 7, .invokeinterface 93 8, .lreturn]
def b86_11 : List Instr := [.aload 0, .iload 9, .iload 2, .iload 3, .iload 4, .iload 5, .iload 6, .iload 7, .invokeinterface 94 8, .lreturn]
def b86_12 : List Instr := [.aload 0, .iload 9, .iload 2, .iload 3, .iload 4, .iload 5, .iload 6, .iload 7, .invokeinterface 95 8, .lreturn]
def b86_13 : List Instr := [.aload 0, .iload 9, .iload 2, .iload 3, .iload 4, .iload 5, .iload 6, .iload 7, .invokeinterface 96 8, .lreturn]
/-- TimberHouse.act(IIIIIII)J -/
def m86 : pm_M := (fun j => [b86_0, b86_1, b86_2, b86_3, b86_4, b86_5, b86_6, b86_7, b86_8, b86_9, b86_10, b86_11, b86_12, b86_13].getD j [], fun _ => [], 1, 10)
def b87_0 : List Instr := [.iload 1, .tableswitch 23 1 12 #[1, 6, 7, 10, 11, 12, 13, 14, 15, 16, 19, 22]]
def b87_1 : List Instr := [.aload 0, .getfield 1027, .iload 2, .iload 3, .iload 4, .iload 5, .ifCond .eq 2, .sipush 1, .goto 3]
def b87_2 : List Instr := [.sipush 0, .goto_w 3]
def b87_3 : List Instr := [.invokeinterface 135 5, .ifCond .eq 4, .bipush 1, .goto 5]
def b87_4 : List Instr := [.bipush 0, .goto_w 5]
def b87_5 : List Instr := [.lreturn]
def b87_6 : List Instr := [.aload 0, .getfield 1027, .iload 2, .iload 3, .iload 4, .iload 5, .invokeinterface 138 5, .bipush 0, .lreturn]
def b87_7 : List Instr := [.aload 0, .getfield 1027, .iload 2, .iload 3, .iload 4, .invokeinterface 140 4, .ifCond .eq 8, .bipush 1, .goto 9]
def b87_8 : List Instr := [.bipush 0, .goto_w 9]
def b87_9 : List Instr := [.lreturn]
def b87_10 : List Instr := [.aload 0, .getfield 1027, .iload 2, .iload 3, .iload 4, .iload 5, .invokeinterface 141 5, .i2l, .lreturn]
def b87_11 : List Instr := [.aload 0, .getfield 1027, .invokeinterface 142 1, .i2l, .lreturn]
def b87_12 : List Instr := [.aload 0, .getfield 1027, .iload 2, .iload 3, .invokeinterface 129 3, .i2l, .lreturn]
def b87_13 : List Instr := [.aload 0, .getfield 1027, .iload 2, .invokeinterface 134 2, .i2l, .lreturn]
def b87_14 : List Instr := [.aload 0, .getfield 1027, .iload 2, .invokeinterface 145 2, .i2l, .lreturn]
def b87_15 : List Instr := [.aload 0, .getfield 1027, .iload 2, .invokeinterface 146 2, .i2l, .lreturn]
def b87_16 : List Instr := [.aload 0, .getfield 1027, .iload 2, .iload 3, .iload 4, .iload 5, .invokeinterface 149 5, .ifCond .eq 17, .bipush 1, .goto 18]
def b87_17 : List Instr := [.bipush 0, .goto_w 18]
def b87_18 : List Instr := [.lreturn]
def b87_19 : List Instr := [.aload 0, .getfield 1027, .iload 2, .iload 3, .invokeinterface 150 3, .ifCond .eq 20, .bipush 1, .goto 21]
def b87_20 : List Instr := [.bipush 0, .goto_w 21]
def b87_21 : List Instr := [.lreturn]
def b87_22 : List Instr := [.aload 0, .getfield 1027, .invokeinterface 147 1, .i2l, .lreturn]
def b87_23 : List Instr := [.bipush (-9000000000000000000), .lreturn]
/-- TimberHouse.sawCall(IIIIIII)J -/
def m87 : pm_M := (fun j => [b87_0, b87_1, b87_2, b87_3, b87_4, b87_5, b87_6, b87_7, b87_8, b87_9, b87_10, b87_11, b87_12, b87_13, b87_14, b87_15, b87_16, b87_17, b87_18, b87_19, b87_20, b87_21, b87_22, b87_23].getD j [], fun _ => [], 1, 8)
def b88_0 : List Instr := [.iload 1, .tableswitch 34 1 17 #[1, 4, 5, 8, 11, 14, 17, 20, 21, 22, 23, 24, 27, 28, 29, 30, 31]]
def b88_1 : List Instr := [.aload 0, .getfield 1035, .iload 2, .iload 3, .iload 4, .iload 5, .iload 6, .iload 7, .invokeinterface 264 7, .ifCond .eq 2, .bipush 1, .goto 3]
def b88_2 : List Instr := [.bipush 0, .goto_w 3]
def b88_3 : List Instr := [.lreturn]
def b88_4 : List Instr := [.aload 0, .getfield 1035, .iload 2, .iload 3, .iload 4, .iload 5, .i2l, .invokeinterface 266 5, .i2l, .lreturn]
def b88_5 : List Instr := [.aload 0, .getfield 1035, .iload 2, .iload 3, .iload 4, .invokeinterface 268 4, .ifCond .eq 6, .bipush 1, .goto 7]
def b88_6 : List Instr := [.bipush 0, .goto_w 7]
def b88_7 : List Instr := [.lreturn]
def b88_8 : List Instr := [.aload 0, .getfield 1035, .iload 2, .invokeinterface 270 2, .ifCond .eq 9, .bipush 1, .goto 10]
def b88_9 : List Instr := [.bipush 0, .goto_w 10]
def b88_10 : List Instr := [.lreturn]
def b88_11 : List Instr := [.aload 0, .getfield 1035, .iload 2, .iload 3, .invokeinterface 271 3, .ifCond .eq 12, .bipush 1, .goto 13]
def b88_12 : List Instr := [.bipush 0, .goto_w 13]
def b88_13 : List Instr := [.lreturn]
def b88_14 : List Instr := [.aload 0, .getfield 1035, .iload 2, .invokeinterface 272 2, .ifCond .eq 15, .bipush 1, .goto 16]
def b88_15 : List Instr := [.bipush 0, .goto_w 16]
def b88_16 : List Instr := [.lreturn]
def b88_17 : List Instr := [.aload 0, .getfield 1035, .iload 2, .invokeinterface 273 2, .ifCond .eq 18, .bipush 1, .goto 19]
def b88_18 : List Instr := [.bipush 0, .goto_w 19]
def b88_19 : List Instr := [.lreturn]
def b88_20 : List Instr := [.aload 0, .getfield 1035, .iload 2, .iload 3, .invokeinterface 274 3, .i2l, .lreturn]
def b88_21 : List Instr := [.aload 0, .getfield 1035, .iload 2, .invokeinterface 279 2, .i2l, .lreturn]
def b88_22 : List Instr := [.aload 0, .getfield 1035, .invokeinterface 263 1, .lreturn]
def b88_23 : List Instr := [.aload 0, .getfield 1035, .iload 2, .iload 3, .invokeinterface 258 3, .i2l, .lreturn]
def b88_24 : List Instr := [.aload 0, .getfield 1035, .iload 2, .invokeinterface 285 2, .ifCond .eq 25, .bipush 1, .goto 26]
def b88_25 : List Instr := [.bipush 0, .goto_w 26]
def b88_26 : List Instr := [.lreturn]
def b88_27 : List Instr := [.aload 0, .getfield 1035, .invokeinterface 286 1, .lreturn]
def b88_28 : List Instr := [.aload 0, .getfield 1035, .iload 2, .iload 3, .invokeinterface 287 3, .lreturn]
def b88_29 : List Instr := [.aload 0, .getfield 1035, .iload 2, .iload 3, .invokeinterface 288 3, .i2l, .lreturn]
def b88_30 : List Instr := [.aload 0, .getfield 1035, .iload 2, .iload 3, .invokeinterface 291 3, .i2l, .lreturn]
def b88_31 : List Instr := [.aload 0, .getfield 1035, .invokeinterface 292 1, .ifCond .eq 32, .bipush 1, .goto 33]
def b88_32 : List Instr := [.bipush 0, .goto_w 33]
def b88_33 : List Instr := [.lreturn]
def b88_34 : List Instr := [.bipush (-9000000000000000000), .lreturn]
/-- TimberHouse.ripsCall(IIIIIII)J -/
def m88 : pm_M := (fun j => [b88_0, b88_1, b88_2, b88_3, b88_4, b88_5, b88_6, b88_7, b88_8, b88_9, b88_10, b88_11, b88_12, b88_13, b88_14, b88_15, b88_16, b88_17, b88_18, b88_19, b88_20, b88_21, b88_22, b88_23, b88_24, b88_25, b88_26, b88_27, b88_28, b88_29, b88_30, b88_31, b88_32, b88_33, b88_34].getD j [], fun _ => [], 1, 8)
def b89_0 : List Instr := [.iload 1, .tableswitch 28 1 15 #[1, 2, 5, 8, 13, 14, 15, 16, 17, 18, 19, 22, 25, 26, 27]]
def b89_1 : List Instr := [.aload 0, .getfield 1043, .iload 2, .iload 3, .invokeinterface 514 3, .i2l, .lreturn]
def b89_2 : List Instr := [.aload 0, .getfield 1043, .iload 2, .iload 3, .i2l, .invokeinterface 521 3, .ifCond .eq 3, .bipush 1, .goto 4]
def b89_3 : List Instr := [.bipush 0, .goto_w 4]
def b89_4 : List Instr := [.lreturn]
def b89_5 : List Instr := [.aload 0, .getfield 1043, .iload 2, .iload 3, .invokeinterface 522 3, .ifCond .eq 6, .bipush 1, .goto 7]
def b89_6 : List Instr := [.bipush 0, .goto_w 7]
def b89_7 : List Instr := [.lreturn]
def b89_8 : List Instr := [.aload 0, .getfield 1043, .iload 2, .iload 3, .ifCond .eq 9, .sipush 1, .goto 10]
def b89_9 : List Instr := [.sipush 0, .goto_w 10]
def b89_10 : List Instr := [.invokeinterface 523 3, .ifCond .eq 11, .bipush 1, .goto 12]
def b89_11 : List Instr := [.bipush 0, .goto_w 12]
def b89_12 : List Instr := [.lreturn]
def b89_13 : List Instr := [.aload 0, .getfield 1043, .invokeinterface 524 1, .i2l, .lreturn]
def b89_14 : List Instr := [.aload 0, .getfield 1043, .iload 2, .invokeinterface 533 2, .i2l, .lreturn]
def b89_15 : List Instr := [.aload 0, .getfield 1043, .iload 2, .invokeinterface 536 2, .i2l, .lreturn]
def b89_16 : List Instr := [.aload 0, .getfield 1043, .iload 2, .invokeinterface 519 2, .lreturn]
def b89_17 : List Instr := [.aload 0, .getfield 1043, .iload 2, .iload 3, .invokeinterface 537 3, .i2l, .lreturn]
def b89_18 : List Instr := [.aload 0, .getfield 1043, .iload 2, .iload 3, .invokeinterface 539 3, .i2l, .lreturn]
def b89_19 : List Instr := [.aload 0, .getfield 1043, .iload 2, .iload 3, .invokeinterface 540 3, .ifCond .eq 20, .bipush 1, .goto 21]
def b89_20 : List Instr := [.bipush 0, .goto_w 21]
def b89_21 : List Instr := [.lreturn]
def b89_22 : List Instr := [.aload 0, .getfield 1043, .iload 2, .iload 3, .invokeinterface 541 3, .ifCond .eq 23, .bipush 1, .goto 24]
def b89_23 : List Instr := [.bipush 0, .goto_w 24]
def b89_24 : List Instr := [.lreturn]
def b89_25 : List Instr := [.aload 0, .getfield 1043, .iload 2, .iload 3, .i2d, .ldc2_w 4620693217682128896, .ddiv, .invokeinterface 542 3, .i2l, .lreturn]
def b89_26 : List Instr := [.aload 0, .getfield 1043, .iload 2, .invokeinterface 544 2, .lreturn]
def b89_27 : List Instr := [.aload 0, .getfield 1043, .iload 2, .invokeinterface 545 2, .i2l, .lreturn]
def b89_28 : List Instr := [.bipush (-9000000000000000000), .lreturn]
/-- TimberHouse.fingersCall(IIIIIII)J -/
def m89 : pm_M := (fun j => [b89_0, b89_1, b89_2, b89_3, b89_4, b89_5, b89_6, b89_7, b89_8, b89_9, b89_10, b89_11, b89_12, b89_13, b89_14, b89_15, b89_16, b89_17, b89_18, b89_19, b89_20, b89_21, b89_22, b89_23, b89_24, b89_25, b89_26, b89_27, b89_28].getD j [], fun _ => [], 1, 8)
def b90_0 : List Instr := [.iload 1, .tableswitch 34 1 25 #[1, 2, 3, 8, 9, 10, 11, 12, 13, 14, 15, 16, 17, 20, 21, 22, 23, 24, 25, 26, 29, 30, 31, 32, 33]]
def b90_1 : List Instr := [.aload 0, .getfield 1051, .iload 2, .invokeinterface 648 2, .bipush 0, .lreturn]
def b90_2 : List Instr := [.aload 0, .getfield 1051, .iload 2, .iload 3, .invokeinterface 649 3, .i2l, .lreturn]
def b90_3 : List Instr := [.aload 0, .getfield 1051, .iload 2, .iload 3, .iload 4, .iload 5, .iload 6, .ifCond .eq 4, .sipush 1, .goto 5]
def b90_4 : List Instr := [.sipush 0, .goto_w 5]
def b90_5 : List Instr := [.invokeinterface 652 6, .ifCond .eq 6, .bipush 1, .goto 7]
def b90_6 : List Instr := [.bipush 0, .goto_w 7]
def b90_7 : List Instr := [.lreturn]
def b90_8 : List Instr := [.aload 0, .getfield 1051, .invokeinterface 654 1, .i2l, .lreturn]
def b90_9 : List Instr := [.aload 0, .getfield 1051, .iload 2, .iload 3, .invokeinterface 656 3, .i2l, .lreturn]
def b90_10 : List Instr := [.aload 0, .getfield 1051, .iload 2, .iload 3, .invokeinterface 657 3, .i2l, .lreturn]
def b90_11 : List Instr := [.aload 0, .getfield 1051, .iload 2, .invokeinterface 658 2, .i2l, .lreturn]
def b90_12 : List Instr := [.aload 0, .getfield 1051, .iload 2, .iload 3, .iload 4, .invokeinterface 659 4, .i2l, .lreturn]
def b90_13 : List Instr := [.aload 0, .getfield 1051, .iload 2, .iload 3, .invokeinterface 660 3, .i2l, .lreturn]
def b90_14 : List Instr := [.aload 0, .getfield 1051, .iload 2, .iload 3, .iload 4, .iload 5, .invokeinterface 641 5, .i2l, .lreturn]
def b90_15 : List Instr := [.aload 0, .getfield 1051, .iload 2, .iload 3, .iload 4, .iload 5, .iload 6, .invokeinterface 661 6, .i2l, .lreturn]
def b90_16 : List Instr := [.aload 0, .getfield 1051, .iload 2, .iload 3, .iload 4, .invokeinterface 662 4, .i2l, .lreturn]
def b90_17 : List Instr := [.aload 0, .getfield 1051, .iload 2, .iload 3, .ifCond .eq 18, .sipush 1, .goto 19]
def b90_18 : List Instr := [.sipush 0, .goto_w 19]
def b90_19 : List Instr := [.invokeinterface 663 3, .lreturn]
def b90_20 : List Instr := [.aload 0, .getfield 1051, .iload 2, .iload 3, .iload 4, .invokeinterface 664 4, .i2l, .lreturn]
def b90_21 : List Instr := [.aload 0, .getfield 1051, .iload 2, .iload 3, .invokeinterface 665 3, .i2l, .lreturn]
def b90_22 : List Instr := [.aload 0, .getfield 1051, .invokeinterface 666 1, .i2l, .lreturn]
def b90_23 : List Instr := [.aload 0, .getfield 1051, .iload 2, .iload 3, .iload 4, .invokeinterface 667 4, .i2l, .lreturn]
def b90_24 : List Instr := [.aload 0, .getfield 1051, .iload 2, .iload 3, .iload 4, .invokeinterface 669 4, .lreturn]
def b90_25 : List Instr := [.aload 0, .getfield 1051, .iload 2, .iload 3, .invokeinterface 670 3, .lreturn]
def b90_26 : List Instr := [.aload 0, .getfield 1051, .iload 2, .invokeinterface 672 2, .ifCond .eq 27, .bipush 1, .goto 28]
def b90_27 : List Instr := [.bipush 0, .goto_w 28]
def b90_28 : List Instr := [.lreturn]
def b90_29 : List Instr := [.aload 0, .getfield 1051, .iload 2, .iload 3, .iload 4, .invokeinterface 673 4, .lreturn]
def b90_30 : List Instr := [.aload 0, .getfield 1051, .iload 2, .iload 3, .invokeinterface 674 3, .bipush 0, .lreturn]
def b90_31 : List Instr := [.aload 0, .getfield 1051, .iload 2, .iload 3, .invokeinterface 675 3, .lreturn]
def b90_32 : List Instr := [.aload 0, .getfield 1051, .iload 2, .iload 3, .invokeinterface 676 3, .i2l, .lreturn]
def b90_33 : List Instr := [.aload 0, .getfield 1051, .iload 2, .iload 3, .invokeinterface 677 3, .i2l, .lreturn]
def b90_34 : List Instr := [.bipush (-9000000000000000000), .lreturn]
/-- TimberHouse.turnedCall(IIIIIII)J -/
def m90 : pm_M := (fun j => [b90_0, b90_1, b90_2, b90_3, b90_4, b90_5, b90_6, b90_7, b90_8, b90_9, b90_10, b90_11, b90_12, b90_13, b90_14, b90_15, b90_16, b90_17, b90_18, b90_19, b90_20, b90_21, b90_22, b90_23, b90_24, b90_25, b90_26, b90_27, b90_28, b90_29, b90_30, b90_31, b90_32, b90_33, b90_34].getD j [], fun _ => [], 1, 8)
def b91_0 : List Instr := [.iload 1, .tableswitch 26 1 17 #[1, 4, 5, 6, 7, 8, 9, 10, 13, 14, 15, 16, 17, 18, 21, 22, 25]]
def b91_1 : List Instr := [.aload 0, .getfield 1059, .iload 2, .invokeinterface 705 2, .ifCond .eq 2, .bipush 1, .goto 3]
def b91_2 : List Instr := [.bipush 0, .goto_w 3]
def b91_3 : List Instr := [.lreturn]
def b91_4 : List Instr := [.aload 0, .getfield 1059, .invokeinterface 707 1, .i2l, .lreturn]
def b91_5 : List Instr := [.aload 0, .getfield 1059, .iload 2, .iload 3, .invokeinterface 714 3, .i2l, .lreturn]
def b91_6 : List Instr := [.aload 0, .getfield 1059, .iload 2, .iload 3, .invokeinterface 717 3, .bipush 0, .lreturn]
def b91_7 : List Instr := [.aload 0, .getfield 1059, .iload 2, .iload 3, .iload 4, .iload 5, .iload 6, .invokeinterface 719 6, .lreturn]
def b91_8 : List Instr := [.aload 0, .getfield 1059, .iload 2, .iload 3, .i2l, .invokeinterface 720 3, .lreturn]
def b91_9 : List Instr := [.aload 0, .getfield 1059, .iload 2, .i2l, .iload 3, .i2l, .invokeinterface 722 3, .i2l, .lreturn]
def b91_10 : List Instr := [.aload 0, .getfield 1059, .iload 2, .iload 3, .iload 4, .iload 5, .invokeinterface 723 5, .ifCond .eq 11, .bipush 1, .goto 12]
def b91_11 : List Instr := [.bipush 0, .goto_w 12]
def b91_12 : List Instr := [.lreturn]
def b91_13 : List Instr := [.aload 0, .getfield 1059, .iload 2, .iload 3, .invokeinterface 725 3, .i2l, .lreturn]
def b91_14 : List Instr := [.aload 0, .getfield 1059, .iload 2, .iload 3, .invokeinterface 727 3, .i2l, .lreturn]
def b91_15 : List Instr := [.aload 0, .getfield 1059, .invokeinterface 728 1, .bipush 0, .lreturn]
def b91_16 : List Instr := [.aload 0, .getfield 1059, .iload 2, .iload 3, .iload 4, .invokeinterface 729 4, .i2l, .lreturn]
def b91_17 : List Instr := [.aload 0, .getfield 1059, .iload 2, .iload 3, .iload 4, .iload 5, .iload 6, .invokeinterface 731 6, .i2l, .lreturn]
def b91_18 : List Instr := [.aload 0, .getfield 1059, .iload 2, .iload 3, .iload 4, .invokeinterface 733 4, .ifCond .eq 19, .bipush 1, .goto 20]
def b91_19 : List Instr := [.bipush 0, .goto_w 20]
def b91_20 : List Instr := [.lreturn]
def b91_21 : List Instr := [.aload 0, .getfield 1059, .iload 2, .iload 3, .iload 4, .iload 5, .iload 6, .iload 7, .invokeinterface 735 7, .i2l, .lreturn]
def b91_22 : List Instr := [.aload 0, .getfield 1059, .iload 2, .iload 3, .invokeinterface 736 3, .ifCond .eq 23, .bipush 1, .goto 24]
def b91_23 : List Instr := [.bipush 0, .goto_w 24]
def b91_24 : List Instr := [.lreturn]
def b91_25 : List Instr := [.aload 0, .getfield 1059, .iload 2, .invokeinterface 737 2, .i2l, .lreturn]
def b91_26 : List Instr := [.bipush (-9000000000000000000), .lreturn]
/-- TimberHouse.nailsCall(IIIIIII)J -/
def m91 : pm_M := (fun j => [b91_0, b91_1, b91_2, b91_3, b91_4, b91_5, b91_6, b91_7, b91_8, b91_9, b91_10, b91_11, b91_12, b91_13, b91_14, b91_15, b91_16, b91_17, b91_18, b91_19, b91_20, b91_21, b91_22, b91_23, b91_24, b91_25, b91_26].getD j [], fun _ => [], 1, 8)
def b92_0 : List Instr := [.iload 1, .tableswitch 14 1 11 #[1, 2, 5, 6, 7, 8, 9, 10, 11, 12, 13]]
def b92_1 : List Instr := [.aload 0, .getfield 1067, .iload 2, .iload 3, .iload 4, .iload 5, .invokeinterface 841 5, .i2l, .lreturn]
def b92_2 : List Instr := [.aload 0, .getfield 1067, .iload 2, .iload 3, .iload 4, .iload 5, .ifCond .eq 3, .sipush 1, .goto 4]
def b92_3 : List Instr := [.sipush 0, .goto_w 4]
def b92_4 : List Instr := [.invokeinterface 845 5, .i2l, .lreturn]
def b92_5 : List Instr := [.aload 0, .getfield 1067, .iload 2, .iload 3, .invokeinterface 846 3, .i2l, .lreturn]
def b92_6 : List Instr := [.aload 0, .getfield 1067, .iload 2, .iload 3, .iload 4, .iload 5, .invokeinterface 847 5, .i2l, .lreturn]
def b92_7 : List Instr := [.aload 0, .getfield 1067, .invokeinterface 848 1, .i2l, .lreturn]
def b92_8 : List Instr := [.aload 0, .getfield 1067, .iload 2, .iload 3, .invokeinterface 834 3, .i2l, .lreturn]
def b92_9 : List Instr := [.aload 0, .getfield 1067, .iload 2, .iload 3, .iload 4, .invokeinterface 839 4, .i2l, .lreturn]
def b92_10 : List Instr := [.aload 0, .getfield 1067, .iload 2, .iload 3, .iload 4, .invokeinterface 853 4, .i2l, .lreturn]
def b92_11 : List Instr := [.aload 0, .getfield 1067, .iload 2, .invokeinterface 854 2, .i2l, .lreturn]
def b92_12 : List Instr := [.aload 0, .getfield 1067, .iload 2, .invokeinterface 840 2, .lreturn]
def b92_13 : List Instr := [.aload 0, .getfield 1067, .invokeinterface 855 1, .i2l, .lreturn]
def b92_14 : List Instr := [.bipush (-9000000000000000000), .lreturn]
/-- TimberHouse.sheetsCall(IIIIIII)J -/
def m92 : pm_M := (fun j => [b92_0, b92_1, b92_2, b92_3, b92_4, b92_5, b92_6, b92_7, b92_8, b92_9, b92_10, b92_11, b92_12, b92_13, b92_14].getD j [], fun _ => [], 1, 8)
def b93_0 : List Instr := [.iload 1, .tableswitch 17 1 12 #[1, 2, 5, 6, 9, 10, 11, 12, 13, 14, 15, 16]]
def b93_1 : List Instr := [.aload 0, .getfield 1075, .iload 2, .iload 3, .iload 4, .iload 5, .iload 6, .invokeinterface 1027 6, .bipush 0, .lreturn]
def b93_2 : List Instr := [.aload 0, .getfield 1075, .iload 2, .iload 3, .iload 4, .iload 5, .iload 6, .ifCond .eq 3, .sipush 1, .goto 4]
def b93_3 : List Instr := [.sipush 0, .goto_w 4]
def b93_4 : List Instr := [.invokeinterface 1030 6, .bipush 0, .lreturn]
def b93_5 : List Instr := [.aload 0, .getfield 1075, .iload 2, .iload 3, .iload 4, .invokeinterface 1031 4, .bipush 0, .lreturn]
def b93_6 : List Instr := [.aload 0, .getfield 1075, .iload 2, .invokeinterface 1025 2, .ifCond .eq 7, .bipush 1, .goto 8]
def b93_7 : List Instr := [.bipush 0, .goto_w 8]
def b93_8 : List Instr := [.lreturn]
def b93_9 : List Instr := [.aload 0, .getfield 1075, .invokeinterface 1032 1, .i2l, .lreturn]
def b93_10 : List Instr := [.aload 0, .getfield 1075, .invokeinterface 1039 1, .i2l, .lreturn]
def b93_11 : List Instr := [.aload 0, .getfield 1075, .iload 2, .invokeinterface 1041 2, .i2l, .lreturn]
def b93_12 : List Instr := [.aload 0, .getfield 1075, .iload 2, .iload 3, .iload 4, .invokeinterface 1042 4, .i2l, .lreturn]
def b93_13 : List Instr := [.aload 0, .getfield 1075, .iload 2, .invokeinterface 1043 2, .i2l, .lreturn]
def b93_14 : List Instr := [.aload 0, .getfield 1075, .iload 2, .invokeinterface 1044 2, .i2l, .lreturn]
def b93_15 : List Instr := [.aload 0, .getfield 1075, .invokeinterface 1045 1, .i2l, .lreturn]
def b93_16 : List Instr := [.aload 0, .getfield 1075, .invokeinterface 1046 1, .bipush 0, .lreturn]
def b93_17 : List Instr := [.bipush (-9000000000000000000), .lreturn]
/-- TimberHouse.routerCall(IIIIIII)J -/
def m93 : pm_M := (fun j => [b93_0, b93_1, b93_2, b93_3, b93_4, b93_5, b93_6, b93_7, b93_8, b93_9, b93_10, b93_11, b93_12, b93_13, b93_14, b93_15, b93_16, b93_17].getD j [], fun _ => [], 1, 8)
def b94_0 : List Instr := [.iload 1, .tableswitch 15 1 14 #[1, 2, 3, 4, 5, 6, 7, 8, 9, 10, 11, 12, 13, 14]]
def b94_1 : List Instr := [.aload 0, .getfield 1083, .iload 2, .invokeinterface 1288 2, .i2l, .lreturn]
def b94_2 : List Instr := [.aload 0, .getfield 1083, .iload 2, .iload 3, .iload 4, .invokeinterface 1289 4, .i2l, .lreturn]
def b94_3 : List Instr := [.aload 0, .getfield 1083, .iload 2, .iload 3, .invokeinterface 1290 3, .i2l, .lreturn]
def b94_4 : List Instr := [.aload 0, .getfield 1083, .iload 2, .iload 3, .invokeinterface 1291 3, .bipush 0, .lreturn]
def b94_5 : List Instr := [.aload 0, .getfield 1083, .iload 2, .iload 3, .iload 4, .iload 5, .invokeinterface 1281 5, .i2l, .lreturn]
def b94_6 : List Instr := [.aload 0, .getfield 1083, .iload 2, .invokeinterface 1292 2, .i2l, .lreturn]
def b94_7 : List Instr := [.aload 0, .getfield 1083, .iload 2, .invokeinterface 1300 2, .i2l, .lreturn]
def b94_8 : List Instr := [.aload 0, .getfield 1083, .iload 2, .iload 3, .invokeinterface 1303 3, .i2l, .lreturn]
def b94_9 : List Instr := [.aload 0, .getfield 1083, .iload 2, .invokeinterface 1304 2, .i2l, .lreturn]
def b94_10 : List Instr := [.aload 0, .getfield 1083, .iload 2, .invokeinterface 1286 2, .lreturn]
def b94_11 : List Instr := [.aload 0, .getfield 1083, .iload 2, .invokeinterface 1305 2, .lreturn]
def b94_12 : List Instr := [.aload 0, .getfield 1083, .iload 2, .invokeinterface 1306 2, .i2l, .lreturn]
def b94_13 : List Instr := [.aload 0, .getfield 1083, .iload 2, .invokeinterface 1307 2, .i2l, .lreturn]
def b94_14 : List Instr := [.aload 0, .getfield 1083, .invokeinterface 1309 1, .i2l, .lreturn]
def b94_15 : List Instr := [.bipush (-9000000000000000000), .lreturn]
/-- TimberHouse.plansCall(IIIIIII)J -/
def m94 : pm_M := (fun j => [b94_0, b94_1, b94_2, b94_3, b94_4, b94_5, b94_6, b94_7, b94_8, b94_9, b94_10, b94_11, b94_12, b94_13, b94_14, b94_15].getD j [], fun _ => [], 1, 8)
def b95_0 : List Instr := [.iload 1, .tableswitch 24 1 17 #[1, 4, 5, 6, 9, 10, 11, 12, 13, 14, 15, 16, 17, 18, 19, 20, 23]]
def b95_1 : List Instr := [.aload 0, .getfield 1091, .iload 2, .invokeinterface 1419 2, .ifCond .eq 2, .bipush 1, .goto 3]
def b95_2 : List Instr := [.bipush 0, .goto_w 3]
def b95_3 : List Instr := [.lreturn]
def b95_4 : List Instr := [.aload 0, .getfield 1091, .invokeinterface 1420 1, .i2l, .lreturn]
def b95_5 : List Instr := [.aload 0, .getfield 1091, .iload 2, .iload 3, .iload 4, .invokeinterface 1409 4, .bipush 0, .lreturn]
def b95_6 : List Instr := [.aload 0, .getfield 1091, .iload 2, .invokeinterface 1416 2, .ifCond .eq 7, .bipush 1, .goto 8]
def b95_7 : List Instr := [.bipush 0, .goto_w 8]
def b95_8 : List Instr := [.lreturn]
def b95_9 : List Instr := [.aload 0, .getfield 1091, .invokeinterface 1429 1, .i2l, .lreturn]
def b95_10 : List Instr := [.aload 0, .getfield 1091, .invokeinterface 1435 1, .lreturn]
def b95_11 : List Instr := [.aload 0, .getfield 1091, .iload 2, .iload 3, .invokeinterface 1436 3, .lreturn]
def b95_12 : List Instr := [.aload 0, .getfield 1091, .iload 2, .iload 3, .iload 4, .invokeinterface 1437 4, .lreturn]
def b95_13 : List Instr := [.aload 0, .getfield 1091, .iload 2, .iload 3, .iload 4, .invokeinterface 1438 4, .i2l, .lreturn]
def b95_14 : List Instr := [.aload 0, .getfield 1091, .iload 2, .invokeinterface 1439 2, .lreturn]
def b95_15 : List Instr := [.aload 0, .getfield 1091, .iload 2, .invokeinterface 1441 2, .i2l, .lreturn]
def b95_16 : List Instr := [.aload 0, .getfield 1091, .iload 2, .iload 3, .invokeinterface 1417 3, .lreturn]
def b95_17 : List Instr := [.aload 0, .getfield 1091, .iload 2, .iload 3, .invokeinterface 1442 3, .lreturn]
def b95_18 : List Instr := [.aload 0, .getfield 1091, .iload 2, .iload 3, .invokeinterface 1443 3, .i2l, .lreturn]
def b95_19 : List Instr := [.aload 0, .getfield 1091, .iload 2, .invokeinterface 1444 2, .lreturn]
def b95_20 : List Instr := [.aload 0, .getfield 1091, .iload 2, .iload 3, .invokeinterface 1445 3, .ifCond .eq 21, .bipush 1, .goto 22]
def b95_21 : List Instr := [.bipush 0, .goto_w 22]
def b95_22 : List Instr := [.lreturn]
def b95_23 : List Instr := [.aload 0, .getfield 1091, .iload 2, .iload 3, .invokeinterface 1446 3, .i2l, .lreturn]
def b95_24 : List Instr := [.bipush (-9000000000000000000), .lreturn]
/-- TimberHouse.pricesCall(IIIIIII)J -/
def m95 : pm_M := (fun j => [b95_0, b95_1, b95_2, b95_3, b95_4, b95_5, b95_6, b95_7, b95_8, b95_9, b95_10, b95_11, b95_12, b95_13, b95_14, b95_15, b95_16, b95_17, b95_18, b95_19, b95_20, b95_21, b95_22, b95_23, b95_24].getD j [], fun _ => [], 1, 8)
def b96_0 : List Instr := [.iload 1, .tableswitch 30 1 17 #[1, 2, 3, 4, 7, 8, 9, 10, 11, 16, 21, 22, 23, 24, 25, 26, 29]]
def b96_1 : List Instr := [.aload 0, .getfield 1099, .iload 2, .iload 3, .i2l, .iload 4, .iload 5, .iload 6, .i2l, .iload 7, .i2l, .invokeinterface 1546 7, .i2l, .lreturn]
def b96_2 : List Instr := [.aload 0, .getfield 1099, .iload 2, .invokeinterface 1548 2, .i2l, .lreturn]
def b96_3 : List Instr := [.aload 0, .getfield 1099, .iload 2, .iload 3, .invokeinterface 1550 3, .i2l, .lreturn]
def b96_4 : List Instr := [.aload 0, .getfield 1099, .iload 2, .iload 3, .invokeinterface 1552 3, .ifCond .eq 5, .bipush 1, .goto 6]
def b96_5 : List Instr := [.bipush 0, .goto_w 6]
def b96_6 : List Instr := [.lreturn]
def b96_7 : List Instr := [.aload 0, .getfield 1099, .iload 2, .iload 3, .iload 4, .iload 5, .i2l, .invokeinterface 1553 5, .lreturn]
def b96_8 : List Instr := [.aload 0, .getfield 1099, .iload 2, .iload 3, .invokeinterface 1554 3, .i2l, .lreturn]
def b96_9 : List Instr := [.aload 0, .getfield 1099, .iload 2, .invokeinterface 1555 2, .i2l, .lreturn]
def b96_10 : List Instr := [.aload 0, .getfield 1099, .iload 2, .iload 3, .iload 4, .iload 5, .invokeinterface 1556 5, .lreturn]
def b96_11 : List Instr := [.aload 0, .getfield 1099, .iload 2, .iload 3, .ifCond .eq 12, .sipush 1, .goto 13]
def b96_12 : List Instr := [.sipush 0, .goto_w 13]
def b96_13 : List Instr := [.invokeinterface 1557 3, .ifCond .eq 14, .bipush 1, .goto 15]
def b96_14 : List Instr := [.bipush 0, .goto_w 15]
def b96_15 : List Instr := [.lreturn]
def b96_16 : List Instr := [.aload 0, .getfield 1099, .iload 2, .iload 3, .iload 4, .ifCond .eq 17, .sipush 1, .goto 18]
def b96_17 : List Instr := [.sipush 0, .goto_w 18]
def b96_18 : List Instr := [.invokeinterface 1558 4, .ifCond .eq 19, .bipush 1, .goto 20]
def b96_19 : List Instr := [.bipush 0, .goto_w 20]
def b96_20 : List Instr := [.lreturn]
def b96_21 : List Instr := [.aload 0, .getfield 1099, .iload 2, .iload 3, .iload 4, .iload 5, .invokeinterface 1559 5, .lreturn]
def b96_22 : List Instr := [.aload 0, .getfield 1099, .iload 2, .invokeinterface 1537 2, .i2l, .lreturn]
def b96_23 : List Instr := [.aload 0, .getfield 1099, .iload 2, .iload 3, .iload 4, .i2l, .invokeinterface 1541 4, .i2l, .lreturn]
def b96_24 : List Instr := [.aload 0, .getfield 1099, .iload 2, .invokeinterface 1544 2, .i2l, .lreturn]
def b96_25 : List Instr := [.aload 0, .getfield 1099, .iload 2, .iload 3, .invokeinterface 1560 3, .lreturn]
def b96_26 : List Instr := [.aload 0, .getfield 1099, .iload 2, .invokeinterface 1561 2, .ifCond .eq 27, .bipush 1, .goto 28]
def b96_27 : List Instr := [.bipush 0, .goto_w 28]
def b96_28 : List Instr := [.lreturn]
def b96_29 : List Instr := [.aload 0, .getfield 1099, .iload 2, .iload 3, .invokeinterface 1562 3, .i2l, .lreturn]
def b96_30 : List Instr := [.bipush (-9000000000000000000), .lreturn]
/-- TimberHouse.shopCall(IIIIIII)J -/
def m96 : pm_M := (fun j => [b96_0, b96_1, b96_2, b96_3, b96_4, b96_5, b96_6, b96_7, b96_8, b96_9, b96_10, b96_11, b96_12, b96_13, b96_14, b96_15, b96_16, b96_17, b96_18, b96_19, b96_20, b96_21, b96_22, b96_23, b96_24, b96_25, b96_26, b96_27, b96_28, b96_29, b96_30].getD j [], fun _ => [], 1, 8)
def b128_0 : List Instr := [.aload 0, .f2i, .aload 0, .sipush 8, .anewarray 19, .putfield 2091, .aload 0, .sipush 1, .sipush 20, .iload 1, .invokeinterface 3840 2, .invokeinterface 3841 2, .putfield 2048, .aload 0, .sipush 0, .sipush 4, .iload 2, .invokeinterface 3840 2, .invokeinterface 3841 2, .putfield 2056, .aload 0, .sipush 2, .aload 0, .getfield 2048, .aload 0, .getfield 2048, .multianewarray 3 3, .putfield 2067, .aload 0, .aload 0, .getfield 2048, .aload 0, .getfield 2048, .multianewarray 3 2, .putfield 2075, .aload 0, .aload 0, .getfield 2048, .aload 0, .getfield 2048, .multianewarray 7 2, .putfield 2083, .aload 0, .new 3, .dup, .aload 0, .getfield 2048, .aload 0, .getfield 2056, .invokeinterface 192 3, .putfield 2107, .aload 0, .new 3, .dup, .aload 0, .getfield 2048, .aload 0, .getfield 2056, .invokeinterface 192 3, .putfield 2115, .aload 0, .aload 0, .getfield 2048, .aload 0, .getfield 2048, .imul, .sipush 3, .multianewarray 7 2, .putfield 2163, .return_]
/-- TimberHouse$SawGrids.<init>(II)V -/
def m128 : pm_M := (fun j => [b128_0].getD j [], fun _ => [], 2, 3)
def b129_0 : List Instr := [.aload 0, .getfield 2130, .invokeinterface 130 1, .iload 1, .sipush 0, .aload 0, .getfield 2152, .sipush 1, .isub, .invokeinterface 131 3, .ifCond .eq 1, .iload 2, .sipush 0, .sipush 6, .invokeinterface 131 3, .ifCond .eq 1, .sipush 1, .goto 2]
def b129_1 : List Instr := [.sipush 0, .goto_w 2]
def b129_2 : List Instr := [.invokeinterface 132 1, .aload 0, .getfield 2163, .iload 1, .aaload, .astore 3, .aload 0, .getfield 2091, .aload 3, .sipush 0, .iaload, .aaload, .astore 4, .aload 0, .aload 0, .getfield 2136, .invokeinterface 133 2, .astore 5, .iload 2, .tableswitch 11 0 5 #[3, 4, 5, 6, 8, 10]]
def b129_3 : List Instr := [.aload 3, .sipush 0, .iaload, .goto 12]
def b129_4 : List Instr := [.aload 3, .sipush 1, .aload 0, .getfield 2136, .iadd, .iaload, .goto 12]
def b129_5 : List Instr := [.aload 3, .sipush 2, .aload 0, .getfield 2136, .isub, .iaload, .goto 12]
def b129_6 : List Instr := [.aload 0, .getfield 2136, .ifCond .ne 7, .aload 4, .getfield 36872, .goto 12]
def b129_7 : List Instr := [.aload 4, .getfield 36864, .goto 12]
def b129_8 : List Instr := [.aload 0, .getfield 2136, .ifCond .ne 9, .aload 4, .getfield 36864, .goto 12]
def b129_9 : List Instr := [.aload 4, .getfield 36872, .goto 12]
def b129_10 : List Instr := [.aload 5, .aload 4, .aload 3, .sipush 1, .iaload, .aload 3, .sipush 2, .iaload, .invokeinterface 193 4, .goto 12]
def b129_11 : List Instr := [.aload 5, .aload 4, .aload 3, .sipush 1, .iaload, .aload 3, .sipush 2, .iaload, .invokeinterface 195 4, .goto_w 12]
def b129_12 : List Instr := [.jsr 0]
/-- TimberHouse$SawGrids.board(II)I -/
def m129 : pm_M := (fun j => [b129_0, b129_1, b129_2, b129_3, b129_4, b129_5, b129_6, b129_7, b129_8, b129_9, b129_10, b129_11, b129_12].getD j [], fun _ => [], 2, 6)
def b130_0 : List Instr := [.iload 0, .ifCond .ne 1, .ret 71, .athrow]
def b130_1 : List Instr := [.return_]
/-- TimberHouse$SawGrids.can(Z)V -/
def m130 : pm_M := (fun j => [b130_0, b130_1].getD j [], fun _ => [], 0, 1)
def b131_0 : List Instr := [.iload 0, .iload 1, .if_icmp .lt 1, .iload 0, .iload 2, .if_icmp .gt 1, .sipush 1, .goto 2]
def b131_1 : List Instr := [.sipush 0, .goto_w 2]
def b131_2 : List Instr := [.jsr 2]
/-- TimberHouse$SawGrids.isIn(III)Z -/
def m131 : pm_M := (fun j => [b131_0, b131_1, b131_2].getD j [], fun _ => [], 0, 3)
def b132_0 : List Instr := [.iload 0, .ifCond .ne 1, .ret 67, .athrow]
def b132_1 : List Instr := [.return_]
/-- TimberHouse$SawGrids.there(Z)V -/
def m132 : pm_M := (fun j => [b132_0, b132_1].getD j [], fun _ => [], 0, 1)
def b133_0 : List Instr := [.iload 1, .ifCond .ne 1, .aload 0, .getfield 2107, .goto 2]
def b133_1 : List Instr := [.aload 0, .getfield 2115, .goto_w 2]
def b133_2 : List Instr := [.areturn]
/-- TimberHouse$SawGrids.view(I)LTimberHouse$SawGrids$View; -/
def m133 : pm_M := (fun j => [b133_0, b133_1, b133_2].getD j [], fun _ => [], 2, 2)
def b134_0 : List Instr := [.aload 0, .getfield 2130, .invokeinterface 130 1, .iload 1, .sipush 0, .sipush 3, .invokeinterface 131 3, .invokeinterface 132 1, .iload 1, .ifCond .ne 1, .aload 0, .aload 0, .getfield 2136, .invokeinterface 133 2, .getfield 3131, .sipush 0, .iaload, .goto 4]
def b134_1 : List Instr := [.iload 1, .sipush 1, .if_icmp .ne 2, .aload 0, .getfield 2136, .goto 4]
def b134_2 : List Instr := [.iload 1, .sipush 2, .if_icmp .ne 3, .aload 0, .getfield 2144, .goto 4]
def b134_3 : List Instr := [.aload 0, .getfield 2152, .goto_w 4]
def b134_4 : List Instr := [.jsr 0]
/-- TimberHouse$SawGrids.all(I)I -/
def m134 : pm_M := (fun j => [b134_0, b134_1, b134_2, b134_3, b134_4].getD j [], fun _ => [], 2, 2)
def b135_0 : List Instr := [.iload 1, .sipush 0, .sipush 1, .invokeinterface 131 3, .ifCond .eq 1, .iload 2, .sipush 0, .aload 0, .getfield 2048, .sipush 1, .isub, .invokeinterface 131 3, .ifCond .eq 1, .iload 3, .sipush 0, .aload 0, .getfield 2048, .sipush 1, .isub, .invokeinterface 131 3, .ifCond .eq 1, .sipush 1, .goto 2]
def b135_1 : List Instr := [.sipush 0, .goto_w 2]
def b135_2 : List Instr := [.invokeinterface 132 1, .aload 0, .getfield 2067, .iload 1, .aaload, .iload 3, .aaload, .iload 2, .baload, .iload 4, .if_icmp .ne 3, .sipush 0, .jsr 2]
def b135_3 : List Instr := [.aload 0, .iload 1, .iload 2, .iload 3, .iload 4, .invokeinterface 136 5, .sipush 1, .jsr 2]
/-- TimberHouse$SawGrids.cell(IIIZ)Z -/
def m135 : pm_M := (fun j => [b135_0, b135_1, b135_2, b135_3].getD j [], fun _ => [], 2, 5)
def b136_0 : List Instr := [.aload 0, .getfield 2067, .iload 1, .aaload, .iload 3, .aaload, .iload 2, .iload 4, .bastore, .aload 0, .getfield 2075, .iload 3, .aaload, .iload 2, .aload 0, .getfield 2067, .sipush 0, .aaload, .iload 3, .aaload, .iload 2, .baload, .ifCond .eq 1, .aload 0, .getfield 2067, .sipush 1, .aaload, .iload 3, .aaload, .iload 2, .baload, .ifCond .eq 1, .sipush 1, .goto 2]
def b136_1 : List Instr := [.sipush 0, .goto_w 2]
def b136_2 : List Instr := [.bastore, .aload 0, .invokeinterface 137 1, .return_]
/-- TimberHouse$SawGrids.put(IIIZ)V -/
def m136 : pm_M := (fun j => [b136_0, b136_1, b136_2].getD j [], fun _ => [], 2, 5)
def b137_0 : List Instr := [.aload 0, .sipush 0, .putfield 2122, .aload 0, .sipush 0, .putfield 2130, .return_]
/-- TimberHouse$SawGrids.change()V -/
def m137 : pm_M := (fun j => [b137_0].getD j [], fun _ => [], 2, 1)
def b138_0 : List Instr := [.iload 1, .sipush 0, .sipush 1, .invokeinterface 131 3, .ifCond .eq 1, .iload 2, .sipush 0, .aload 0, .getfield 2048, .sipush 1, .isub, .invokeinterface 131 3, .ifCond .eq 1, .sipush 1, .goto 2]
def b138_1 : List Instr := [.sipush 0, .goto_w 2]
def b138_2 : List Instr := [.invokeinterface 132 1, .iload 3, .sipush 0, .aload 0, .getfield 2048, .invokeinterface 131 3, .ifCond .eq 3, .iload 4, .iload 3, .aload 0, .getfield 2048, .invokeinterface 131 3, .ifCond .eq 3, .sipush 1, .goto 4]
def b138_3 : List Instr := [.sipush 0, .goto_w 4]
def b138_4 : List Instr := [.invokeinterface 139 1, .aload 0, .invokeinterface 137 1, .iload 3, .istore 5, .goto_w 5]
def b138_5 : List Instr := [.iload 5, .iload 4, .if_icmp .ge 6, .aload 0, .iload 1, .iload 5, .iload 2, .sipush 1, .invokeinterface 136 5, .iinc 5 1, .goto 5]
def b138_6 : List Instr := [.return_]
/-- TimberHouse$SawGrids.span(IIII)V -/
def m138 : pm_M := (fun j => [b138_0, b138_1, b138_2, b138_3, b138_4, b138_5, b138_6].getD j [], fun _ => [], 2, 6)
def b139_0 : List Instr := [.iload 0, .ifCond .ne 1, .ret 70, .athrow]
def b139_1 : List Instr := [.return_]
/-- TimberHouse$SawGrids.proper(Z)V -/
def m139 : pm_M := (fun j => [b139_0, b139_1].getD j [], fun _ => [], 0, 1)
def b140_0 : List Instr := [.iload 1, .sipush 0, .aload 0, .getfield 2048, .sipush 1, .isub, .invokeinterface 131 3, .ifCond .eq 1, .iload 2, .sipush 0, .aload 0, .getfield 2048, .sipush 1, .isub, .invokeinterface 131 3, .ifCond .eq 1, .sipush 1, .goto 2]
def b140_1 : List Instr := [.sipush 0, .goto_w 2]
def b140_2 : List Instr := [.invokeinterface 132 1, .iload 3, .sipush 0, .sipush 10000, .invokeinterface 131 3, .invokeinterface 139 1, .aload 0, .getfield 2083, .iload 2, .aaload, .iload 1, .iaload, .iload 3, .if_icmp .ne 3, .sipush 0, .jsr 2]
def b140_3 : List Instr := [.aload 0, .getfield 2083, .iload 2, .aaload, .iload 1, .iload 3, .iastore, .aload 0, .invokeinterface 137 1, .sipush 1, .jsr 2]
/-- TimberHouse$SawGrids.knot(III)Z -/
def m140 : pm_M := (fun j => [b140_0, b140_1, b140_2, b140_3].getD j [], fun _ => [], 2, 4)
def b141_0 : List Instr := [.iload 1, .sipush 1, .sipush 20, .invokeinterface 131 3, .ifCond .eq 1, .iload 2, .sipush 1, .sipush 20, .invokeinterface 131 3, .ifCond .eq 1, .iload 3, .sipush 0, .sipush 100000, .invokeinterface 131 3, .ifCond .eq 1, .iload 4, .sipush 0, .sipush 400, .invokeinterface 131 3, .ifCond .eq 1, .sipush 1, .goto 2]
def b141_1 : List Instr := [.sipush 0, .goto_w 2]
def b141_2 : List Instr := [.invokeinterface 139 1, .aload 0, .getfield 2096, .sipush 8, .if_icmp .ge 3, .sipush 1, .goto 4]
def b141_3 : List Instr := [.sipush 0, .goto_w 4]
def b141_4 : List Instr := [.invokeinterface 130 1, .aload 0, .getfield 2091, .aload 0, .getfield 2096, .new 36, .dup, .iload 1, .iload 2, .iload 3, .iload 4, .invokeinterface 2304 5, .aastore, .aload 0, .invokeinterface 137 1, .aload 0, .dup, .getfield 2096, .dup_x1, .sipush 1, .iadd, .putfield 2096, .jsr 0]
/-- TimberHouse$SawGrids.size(IIII)I -/
def m141 : pm_M := (fun j => [b141_0, b141_1, b141_2, b141_3, b141_4].getD j [], fun _ => [], 2, 5)
def b142_0 : List Instr := [.aload 0, .invokeinterface 143 1, .aload 0, .getfield 2115, .getfield 3131, .sipush 0, .iaload, .aload 0, .getfield 2107, .getfield 3131, .sipush 0, .iaload, .if_icmp .gt 1, .aload 0, .getfield 2115, .getfield 3131, .sipush 0, .iaload, .aload 0, .getfield 2107, .getfield 3131, .sipush 0, .iaload, .if_icmp .ne 2, .aload 0, .getfield 2115, .getfield 3139, .sipush 0, .iaload, .aload 0, .getfield 2107, .getfield 3139, .sipush 0, .iaload, .if_icmp .ge 2, .goto_w 1]
def b142_1 : List Instr := [.sipush 1, .goto 3]
def b142_2 : List Instr := [.sipush 0, .goto_w 3]
def b142_3 : List Instr := [.istore 1, .aload 0, .iload 1, .ifCond .eq 4, .sipush 1, .goto 5]
def b142_4 : List Instr := [.sipush 0, .goto_w 5]
def b142_5 : List Instr := [.putfield 2136, .aload 0, .aload 0, .aload 0, .getfield 2136, .invokeinterface 133 2, .invokeinterface 144 2, .aload 0, .sipush 1, .putfield 2130, .aload 0, .getfield 2152, .jsr 0]
/-- TimberHouse$SawGrids.run()I -/
def m142 : pm_M := (fun j => [b142_0, b142_1, b142_2, b142_3, b142_4, b142_5].getD j [], fun _ => [], 2, 2)
def b143_0 : List Instr := [.aload 0, .getfield 2122, .ifCond .eq 1, .return_]
def b143_1 : List Instr := [.aload 0, .getfield 2107, .aload 0, .getfield 2075, .aload 0, .getfield 2083, .sipush 0, .invokeinterface 196 4, .aload 0, .getfield 2115, .aload 0, .getfield 2075, .aload 0, .getfield 2083, .sipush 1, .invokeinterface 196 4, .aload 0, .getfield 2107, .aload 0, .getfield 2091, .aload 0, .getfield 2096, .invokeinterface 197 3, .aload 0, .getfield 2115, .aload 0, .getfield 2091, .aload 0, .getfield 2096, .invokeinterface 197 3, .aload 0, .sipush 1, .putfield 2122, .return_]
/-- TimberHouse$SawGrids.look()V -/
def m143 : pm_M := (fun j => [b143_0, b143_1].getD j [], fun _ => [], 2, 1)
def b144_0 : List Instr := [.aload 0, .sipush 0, .putfield 2144, .aload 0, .sipush 0, .putfield 2152, .sipush 0, .istore 2, .goto_w 1]
def b144_1 : List Instr := [.iload 2, .aload 0, .getfield 2048, .if_icmp .ge 6, .aload 1, .getfield 3147, .iload 2, .baload, .istore 3, .iload 3, .ifCond .ne 2, .iinc 2 1, .goto 1]
def b144_2 : List Instr := [.aload 1, .aload 0, .getfield 2091, .aload 0, .getfield 2096, .iload 2, .iload 3, .invokeinterface 198 5, .sipush 0, .istore 4, .goto_w 3]
def b144_3 : List Instr := [.iload 4, .aload 0, .getfield 2048, .if_icmp .ge 5, .aload 1, .getfield 3123, .iload 4, .baload, .istore 5, .iload 5, .sipush (-1), .if_icmp .ne 4, .iinc 4 1, .goto 3]
def b144_4 : List Instr := [.aload 0, .getfield 2163, .aload 0, .dup, .getfield 2152, .dup_x1, .sipush 1, .iadd, .putfield 2152, .aaload, .astore 6, .aload 6, .sipush 0, .iload 5, .iastore, .aload 6, .sipush 1, .iload 4, .iastore, .aload 6, .sipush 2, .iload 2, .iastore, .aload 1, .iload 4, .aload 0, .getfield 2091, .iload 5, .aaload, .getfield 36872, .iadd, .invokeinterface 200 2, .istore 4, .goto 3]
def b144_5 : List Instr := [.aload 0, .dup, .getfield 2144, .sipush 1, .iadd, .putfield 2144, .aload 1, .iload 2, .iload 3, .iadd, .invokeinterface 200 2, .istore 2, .goto 1]
def b144_6 : List Instr := [.return_]
/-- TimberHouse$SawGrids.walk(LTimberHouse$SawGrids$View;)V -/
def m144 : pm_M := (fun j => [b144_0, b144_1, b144_2, b144_3, b144_4, b144_5, b144_6].getD j [], fun _ => [], 2, 7)
def b145_0 : List Instr := [.iload 1, .sipush 0, .sipush 1, .invokeinterface 131 3, .invokeinterface 132 1, .aload 0, .invokeinterface 143 1, .aload 0, .iload 1, .invokeinterface 133 2, .getfield 3131, .sipush 0, .iaload, .jsr 0]
/-- TimberHouse$SawGrids.worth(I)I -/
def m145 : pm_M := (fun j => [b145_0].getD j [], fun _ => [], 2, 2)
def b146_0 : List Instr := [.aload 0, .getfield 2130, .invokeinterface 130 1, .iload 1, .sipush 0, .sipush 1, .invokeinterface 131 3, .invokeinterface 132 1, .sipush 0, .istore 2, .sipush 0, .istore 3, .goto_w 1]
def b146_1 : List Instr := [.iload 3, .aload 0, .getfield 2152, .if_icmp .ge 2, .aload 0, .getfield 2091, .aload 0, .getfield 2163, .iload 3, .aaload, .sipush 0, .iaload, .aaload, .astore 4, .iload 2, .aload 4, .getfield 36864, .aload 4, .getfield 36872, .imul, .iadd, .istore 2, .iinc 3 1, .goto 1]
def b146_2 : List Instr := [.aload 0, .invokeinterface 147 1, .istore 3, .iload 3, .ifCond .ne 3, .iload 1, .jsr 0]
def b146_3 : List Instr := [.iload 2, .iload 3, .invokeinterface 148 2, .istore 4, .iload 1, .ifCond .ne 4, .iload 2, .iload 4, .idiv, .goto 5]
def b146_4 : List Instr := [.iload 3, .iload 4, .idiv, .goto_w 5]
def b146_5 : List Instr := [.jsr 0]
/-- TimberHouse$SawGrids.yields(I)I -/
def m146 : pm_M := (fun j => [b146_0, b146_1, b146_2, b146_3, b146_4, b146_5].getD j [], fun _ => [], 2, 5)
def b147_0 : List Instr := [.sipush 0, .istore 1, .aload 0, .getfield 2075, .astore 2, .aload 2, .arraylength, .istore 3, .sipush 0, .istore 4, .goto_w 1]
def b147_1 : List Instr := [.iload 4, .iload 3, .if_icmp .ge 6, .aload 2, .iload 4, .aaload, .astore 5, .aload 5, .astore 6, .aload 6, .arraylength, .istore 7, .sipush 0, .istore 8, .goto_w 2]
def b147_2 : List Instr := [.iload 8, .iload 7, .if_icmp .ge 5, .aload 6, .iload 8, .baload, .istore 9, .iload 1, .iload 9, .ifCond .eq 3, .sipush 1, .goto 4]
def b147_3 : List Instr := [.sipush 0, .goto_w 4]
def b147_4 : List Instr := [.iadd, .istore 1, .iinc 8 1, .goto 2]
def b147_5 : List Instr := [.iinc 4 1, .goto 1]
def b147_6 : List Instr := [.iload 1, .jsr 0]
/-- TimberHouse$SawGrids.wood()I -/
def m147 : pm_M := (fun j => [b147_0, b147_1, b147_2, b147_3, b147_4, b147_5, b147_6].getD j [], fun _ => [], 2, 10)
def b148_0 : List Instr := [.iload 0, .istore 2, .iload 1, .istore 3, .goto_w 1]
def b148_1 : List Instr := [.iload 3, .ifCond .eq 2, .iload 2, .iload 3, .irem, .istore 4, .iload 3, .istore 2, .iload 4, .istore 3, .goto 1]
def b148_2 : List Instr := [.iload 2, .jsr 0]
/-- TimberHouse$SawGrids.divisor(II)I -/
def m148 : pm_M := (fun j => [b148_0, b148_1, b148_2].getD j [], fun _ => [], 0, 5)
def b149_0 : List Instr := [.iload 1, .sipush 0, .aload 0, .getfield 2096, .sipush 1, .isub, .invokeinterface 131 3, .ifCond .eq 1, .iload 4, .sipush 0, .sipush 1, .invokeinterface 131 3, .ifCond .eq 1, .sipush 1, .goto 2]
def b149_1 : List Instr := [.sipush 0, .goto_w 2]
def b149_2 : List Instr := [.invokeinterface 132 1, .aload 0, .invokeinterface 143 1, .iload 2, .sipush 0, .aload 0, .getfield 2048, .invokeinterface 131 3, .ifCond .eq 5, .iload 3, .sipush 0, .aload 0, .getfield 2048, .invokeinterface 131 3, .ifCond .eq 5, .iload 4, .ifCond .ne 3, .aload 0, .getfield 2107, .aload 0, .getfield 2091, .iload 1, .aaload, .iload 2, .iload 3, .invokeinterface 199 4, .ifCond .eq 5, .goto 4]
def b149_3 : List Instr := [.aload 0, .getfield 2115, .aload 0, .getfield 2091, .iload 1, .aaload, .iload 3, .iload 2, .invokeinterface 199 4, .ifCond .eq 5, .goto_w 4]
def b149_4 : List Instr := [.sipush 1, .goto 6]
def b149_5 : List Instr := [.sipush 0, .goto_w 6]
def b149_6 : List Instr := [.jsr 2]
/-- TimberHouse$SawGrids.may(IIII)Z -/
def m149 : pm_M := (fun j => [b149_0, b149_1, b149_2, b149_3, b149_4, b149_5, b149_6].getD j [], fun _ => [], 2, 5)
def b150_0 : List Instr := [.aload 0, .getfield 2130, .invokeinterface 130 1, .iload 1, .sipush 0, .aload 0, .getfield 2152, .sipush 1, .isub, .invokeinterface 131 3, .ifCond .eq 1, .iload 2, .sipush 0, .aload 0, .getfield 2152, .sipush 1, .isub, .invokeinterface 131 3, .ifCond .eq 1, .sipush 1, .goto 2]
def b150_1 : List Instr := [.sipush 0, .goto_w 2]
def b150_2 : List Instr := [.invokeinterface 132 1, .aload 0, .getfield 2163, .iload 1, .aaload, .astore 3, .aload 0, .getfield 2163, .iload 2, .aaload, .astore 4, .aload 3, .sipush 1, .iaload, .aload 0, .getfield 2091, .aload 3, .sipush 0, .iaload, .aaload, .getfield 36872, .iadd, .aload 0, .getfield 2056, .iadd, .aload 4, .sipush 1, .iaload, .if_icmp .le 3, .aload 4, .sipush 1, .iaload, .aload 0, .getfield 2091, .aload 4, .sipush 0, .iaload, .aaload, .getfield 36872, .iadd, .aload 0, .getfield 2056, .iadd, .aload 3, .sipush 1, .iaload, .if_icmp .gt 4, .goto_w 3]
def b150_3 : List Instr := [.sipush 1, .goto 5]
def b150_4 : List Instr := [.sipush 0, .goto_w 5]
def b150_5 : List Instr := [.istore 5, .aload 3, .sipush 2, .iaload, .aload 0, .getfield 2091, .aload 3, .sipush 0, .iaload, .aaload, .getfield 36864, .iadd, .aload 0, .getfield 2056, .iadd, .aload 4, .sipush 2, .iaload, .if_icmp .le 6, .aload 4, .sipush 2, .iaload, .aload 0, .getfield 2091, .aload 4, .sipush 0, .iaload, .aaload, .getfield 36864, .iadd, .aload 0, .getfield 2056, .iadd, .aload 3, .sipush 2, .iaload, .if_icmp .gt 7, .goto_w 6]
def b150_6 : List Instr := [.sipush 1, .goto 8]
def b150_7 : List Instr := [.sipush 0, .goto_w 8]
def b150_8 : List Instr := [.istore 6, .iload 5, .ifCond .ne 9, .iload 6, .ifCond .eq 10, .goto_w 9]
def b150_9 : List Instr := [.sipush 1, .goto 11]
def b150_10 : List Instr := [.sipush 0, .goto_w 11]
def b150_11 : List Instr := [.jsr 2]
/-- TimberHouse$SawGrids.apart(II)Z -/
def m150 : pm_M := (fun j => [b150_0, b150_1, b150_2, b150_3, b150_4, b150_5, b150_6, b150_7, b150_8, b150_9, b150_10, b150_11].getD j [], fun _ => [], 2, 7)
def b192_0 : List Instr := [.aload 0, .f2i, .aload 0, .iload 1, .putfield 3072, .aload 0, .iload 2, .putfield 3080, .aload 0, .iload 1, .sipush 1, .iadd, .iload 1, .sipush 1, .iadd, .multianewarray 7 2, .putfield 3091, .aload 0, .iload 1, .sipush 1, .iadd, .iload 1, .sipush 1, .iadd, .multianewarray 7 2, .putfield 3099, .aload 0, .iload 1, .sipush 1, .iadd, .newarray .int, .putfield 3107, .aload 0, .iload 1, .sipush 1, .iadd, .newarray .int, .putfield 3115, .aload 0, .iload 1, .newarray .byte, .putfield 3123, .aload 0, .iload 1, .sipush 1, .iadd, .newarray .int, .putfield 3131, .aload 0, .iload 1, .sipush 1, .iadd, .newarray .int, .putfield 3139, .aload 0, .iload 1, .newarray .byte, .putfield 3147, .return_]
/-- TimberHouse$SawGrids$View.<init>(II)V -/
def m192 : pm_M := (fun j => [b192_0].getD j [], fun _ => [], 3, 3)
def b193_0 : List Instr := [.sipush 0, .aload 1, .getfield 36880, .aload 0, .getfield 3099, .iload 2, .iload 3, .aload 1, .getfield 36872, .aload 1, .getfield 36864, .invokeinterface 194 5, .isub, .invokeinterface 3841 2, .jsr 0]
/-- TimberHouse$SawGrids$View.worth(LTimberHouse$SawGrids$Size;II)I -/
def m193 : pm_M := (fun j => [b193_0].getD j [], fun _ => [], 3, 4)
def b194_0 : List Instr := [.aload 0, .iload 2, .iload 4, .iadd, .aaload, .iload 1, .iload 3, .iadd, .iaload, .aload 0, .iload 2, .aaload, .iload 1, .iload 3, .iadd, .iaload, .isub, .aload 0, .iload 2, .iload 4, .iadd, .aaload, .iload 1, .iaload, .isub, .aload 0, .iload 2, .aaload, .iload 1, .iaload, .iadd, .jsr 0]
/-- TimberHouse$SawGrids$View.within([[IIIII)I -/
def m194 : pm_M := (fun j => [b194_0].getD j [], fun _ => [], 0, 5)
def b195_0 : List Instr := [.aload 0, .getfield 3091, .iload 2, .iload 3, .aload 1, .getfield 36872, .aload 1, .getfield 36864, .invokeinterface 194 5, .jsr 0]
/-- TimberHouse$SawGrids$View.missing(LTimberHouse$SawGrids$Size;II)I -/
def m195 : pm_M := (fun j => [b195_0].getD j [], fun _ => [], 3, 4)
def b196_0 : List Instr := [.sipush 0, .istore 4, .goto_w 1]
def b196_1 : List Instr := [.iload 4, .aload 0, .getfield 3072, .if_icmp .ge 10, .sipush 0, .istore 5, .goto_w 2]
def b196_2 : List Instr := [.iload 5, .aload 0, .getfield 3072, .if_icmp .ge 9, .iload 3, .ifCond .eq 3, .aload 1, .iload 5, .aaload, .iload 4, .baload, .goto 4]
def b196_3 : List Instr := [.aload 1, .iload 4, .aaload, .iload 5, .baload, .goto_w 4]
def b196_4 : List Instr := [.istore 6, .iload 3, .ifCond .eq 5, .aload 2, .iload 5, .aaload, .iload 4, .iaload, .goto 6]
def b196_5 : List Instr := [.aload 2, .iload 4, .aaload, .iload 5, .iaload, .goto_w 6]
def b196_6 : List Instr := [.istore 7, .aload 0, .getfield 3091, .iload 4, .sipush 1, .iadd, .aaload, .iload 5, .sipush 1, .iadd, .aload 0, .getfield 3091, .iload 4, .aaload, .iload 5, .sipush 1, .iadd, .iaload, .aload 0, .getfield 3091, .iload 4, .sipush 1, .iadd, .aaload, .iload 5, .iaload, .iadd, .aload 0, .getfield 3091, .iload 4, .aaload, .iload 5, .iaload, .isub, .iload 6, .ifCond .eq 7, .sipush 0, .goto 8]
def b196_7 : List Instr := [.sipush 1, .goto_w 8]
def b196_8 : List Instr := [.iadd, .iastore, .aload 0, .getfield 3099, .iload 4, .sipush 1, .iadd, .aaload, .iload 5, .sipush 1, .iadd, .aload 0, .getfield 3099, .iload 4, .aaload, .iload 5, .sipush 1, .iadd, .iaload, .aload 0, .getfield 3099, .iload 4, .sipush 1, .iadd, .aaload, .iload 5, .iaload, .iadd, .aload 0, .getfield 3099, .iload 4, .aaload, .iload 5, .iaload, .isub, .iload 7, .iadd, .iastore, .iinc 5 1, .goto 2]
def b196_9 : List Instr := [.iinc 4 1, .goto 1]
def b196_10 : List Instr := [.return_]
/-- TimberHouse$SawGrids$View.sum([[Z[[IZ)V -/
def m196 : pm_M := (fun j => [b196_0, b196_1, b196_2, b196_3, b196_4, b196_5, b196_6, b196_7, b196_8, b196_9, b196_10].getD j [], fun _ => [], 3, 8)
def b197_0 : List Instr := [.aload 0, .getfield 3131, .aload 0, .getfield 3072, .aload 0, .getfield 3139, .aload 0, .getfield 3072, .sipush 0, .dup_x2, .iastore, .iastore, .aload 0, .getfield 3072, .sipush 1, .isub, .istore 3, .goto_w 1]
def b197_1 : List Instr := [.iload 3, .ifCond .lt 7, .aload 0, .getfield 3147, .iload 3, .sipush 0, .bastore, .aload 0, .getfield 3131, .iload 3, .aload 0, .getfield 3131, .iload 3, .sipush 1, .iadd, .iaload, .iastore, .aload 0, .getfield 3139, .iload 3, .aload 0, .getfield 3139, .iload 3, .sipush 1, .iadd, .iaload, .iastore, .aload 0, .getfield 3072, .iload 3, .isub, .istore 4, .goto_w 2]
def b197_2 : List Instr := [.iload 4, .ifCond .le 6, .aload 0, .aload 1, .iload 2, .iload 3, .iload 4, .invokeinterface 198 5, .aload 0, .getfield 3115, .sipush 0, .iaload, .ifCond .ne 3, .goto 5]
def b197_3 : List Instr := [.aload 0, .iload 3, .iload 4, .iadd, .invokeinterface 200 2, .istore 5, .aload 0, .getfield 3131, .iload 5, .iaload, .aload 0, .getfield 3107, .sipush 0, .iaload, .iadd, .istore 6, .aload 0, .getfield 3139, .iload 5, .iaload, .aload 0, .getfield 3115, .sipush 0, .iaload, .iadd, .istore 7, .iload 6, .aload 0, .getfield 3131, .iload 3, .iaload, .if_icmp .gt 4, .iload 6, .aload 0, .getfield 3131, .iload 3, .iaload, .if_icmp .ne 5, .iload 7, .aload 0, .getfield 3139, .iload 3, .iaload, .if_icmp .gt 5, .goto_w 4]
def b197_4 : List Instr := [.aload 0, .getfield 3147, .iload 3, .iload 4, .i2b, .bastore, .aload 0, .getfield 3131, .iload 3, .iload 6, .iastore, .aload 0, .getfield 3139, .iload 3, .iload 7, .iastore, .goto_w 5]
def b197_5 : List Instr := [.iinc 4 (-1), .goto 2]
def b197_6 : List Instr := [.iinc 3 (-1), .goto 1]
def b197_7 : List Instr := [.return_]
/-- TimberHouse$SawGrids$View.fill([LTimberHouse$SawGrids$Size;I)V -/
def m197 : pm_M := (fun j => [b197_0, b197_1, b197_2, b197_3, b197_4, b197_5, b197_6, b197_7].getD j [], fun _ => [], 3, 8)
def b198_0 : List Instr := [.aload 0, .getfield 3107, .aload 0, .getfield 3072, .aload 0, .getfield 3115, .aload 0, .getfield 3072, .sipush 0, .dup_x2, .iastore, .iastore, .aload 0, .getfield 3072, .sipush 1, .isub, .istore 5, .goto_w 1]
def b198_1 : List Instr := [.iload 5, .ifCond .lt 7, .aload 0, .getfield 3123, .iload 5, .sipush (-1), .bastore, .aload 0, .getfield 3107, .iload 5, .aload 0, .getfield 3107, .iload 5, .sipush 1, .iadd, .iaload, .iastore, .aload 0, .getfield 3115, .iload 5, .aload 0, .getfield 3115, .iload 5, .sipush 1, .iadd, .iaload, .iastore, .iload 2, .sipush 1, .isub, .istore 6, .goto_w 2]
def b198_2 : List Instr := [.iload 6, .ifCond .lt 6, .aload 1, .iload 6, .aaload, .astore 7, .aload 7, .getfield 36864, .iload 4, .if_icmp .ne 5, .aload 0, .aload 7, .iload 5, .iload 3, .invokeinterface 199 4, .ifCond .ne 3, .goto 5]
def b198_3 : List Instr := [.aload 0, .iload 5, .aload 7, .getfield 36872, .iadd, .invokeinterface 200 2, .istore 8, .aload 0, .getfield 3107, .iload 8, .iaload, .aload 0, .aload 7, .iload 5, .iload 3, .invokeinterface 193 4, .iadd, .istore 9, .aload 0, .getfield 3115, .iload 8, .iaload, .sipush 1, .iadd, .istore 10, .iload 9, .aload 0, .getfield 3107, .iload 5, .iaload, .if_icmp .gt 4, .iload 9, .aload 0, .getfield 3107, .iload 5, .iaload, .if_icmp .ne 5, .iload 10, .aload 0, .getfield 3115, .iload 5, .iaload, .if_icmp .gt 5, .goto_w 4]
def b198_4 : List Instr := [.aload 0, .getfield 3123, .iload 5, .iload 6, .i2b, .bastore, .aload 0, .getfield 3107, .iload 5, .iload 9, .iastore, .aload 0, .getfield 3115, .iload 5, .iload 10, .iastore, .goto_w 5]
def b198_5 : List Instr := [.iinc 6 (-1), .goto 2]
def b198_6 : List Instr := [.iinc 5 (-1), .goto 1]
def b198_7 : List Instr := [.return_]
/-- TimberHouse$SawGrids$View.fillSlab([LTimberHouse$SawGrids$Size;III)V -/
def m198 : pm_M := (fun j => [b198_0, b198_1, b198_2, b198_3, b198_4, b198_5, b198_6, b198_7].getD j [], fun _ => [], 3, 11)
def b199_0 : List Instr := [.iload 2, .ifCond .lt 1, .iload 3, .ifCond .lt 1, .iload 2, .aload 1, .getfield 36872, .iadd, .aload 0, .getfield 3072, .if_icmp .gt 1, .iload 3, .aload 1, .getfield 36864, .iadd, .aload 0, .getfield 3072, .if_icmp .gt 1, .aload 0, .aload 1, .iload 2, .iload 3, .invokeinterface 195 4, .aload 1, .getfield 36888, .if_icmp .gt 1, .sipush 1, .goto 2]
def b199_1 : List Instr := [.sipush 0, .goto_w 2]
def b199_2 : List Instr := [.jsr 2]
/-- TimberHouse$SawGrids$View.may(LTimberHouse$SawGrids$Size;II)Z -/
def m199 : pm_M := (fun j => [b199_0, b199_1, b199_2].getD j [], fun _ => [], 3, 4)
def b200_0 : List Instr := [.aload 0, .getfield 3072, .iload 1, .aload 0, .getfield 3080, .iadd, .invokeinterface 3840 2, .jsr 0]
/-- TimberHouse$SawGrids$View.behind(I)I -/
def m200 : pm_M := (fun j => [b200_0].getD j [], fun _ => [], 3, 2)
def b256_0 : List Instr := [.aload 0, .f2i, .aload 0, .sipush 20, .anewarray 16, .putfield 4123, .aload 0, .sipush 8, .anewarray 17, .putfield 4139, .aload 0, .sipush 65537, .newarray .boolean, .putfield 4155, .aload 0, .sipush 16777216, .putfield 4168, .aload 0, .sipush 75625, .newarray .byte, .putfield 4179, .aload 0, .new 5, .dup, .aload 0, .getfield 4139, .aload 0, .getfield 4155, .invokeinterface 320 3, .putfield 4187, .aload 0, .new 7, .dup, .invokeinterface 448 1, .putfield 4195, .aload 0, .new 7, .dup, .invokeinterface 448 1, .putfield 4203, .aload 0, .sipush 2, .putfield 4216, .aload 0, .sipush 240, .newarray .boolean, .putfield 4243, .aload 0, .sipush 24341, .newarray .int, .putfield 4251, .aload 0, .iload 3, .invokeinterface 257 1, .putfield 4096, .aload 0, .sipush 24, .iload 2, .invokeinterface 257 1, .aload 0, .getfield 4096, .idiv, .invokeinterface 3840 2, .putfield 4104, .aload 0, .sipush 10, .iload 1, .invokeinterface 257 1, .aload 0, .getfield 4096, .idiv, .invokeinterface 3840 2, .putfield 4112, .return_]
/-- TimberHouse$FaultRips.<init>(III)V -/
def m256 : pm_M := (fun j => [b256_0].getD j [], fun _ => [], 4, 4)
def b257_0 : List Instr := [.sipush 1, .sipush 65536, .iload 0, .invokeinterface 3840 2, .invokeinterface 3841 2, .jsr 0]
/-- TimberHouse$FaultRips.near(I)I -/
def m257 : pm_M := (fun j => [b257_0].getD j [], fun _ => [], 0, 1)
def b258_0 : List Instr := [.aload 0, .getfield 4226, .invokeinterface 259 1, .iload 1, .i2l, .bipush (-1), .aload 0, .getfield 4195, .getfield 7208, .sipush 1, .isub, .i2l, .invokeinterface 260 3, .invokeinterface 261 1, .iload 2, .i2l, .bipush 0, .bipush 5, .invokeinterface 260 3, .invokeinterface 262 1, .iload 1, .sipush (-1), .if_icmp .ne 1, .aload 0, .getfield 4195, .getfield 7208, .jsr 0]
def b258_1 : List Instr := [.iload 2, .tableswitch 7 0 4 #[2, 3, 4, 5, 6]]
def b258_2 : List Instr := [.aload 0, .getfield 4195, .getfield 7171, .iload 1, .baload, .goto 8]
def b258_3 : List Instr := [.aload 0, .getfield 4195, .getfield 7179, .iload 1, .baload, .goto 8]
def b258_4 : List Instr := [.aload 0, .getfield 4195, .getfield 7187, .iload 1, .baload, .goto 8]
def b258_5 : List Instr := [.aload 0, .getfield 4195, .getfield 7195, .iload 1, .baload, .goto 8]
def b258_6 : List Instr := [.aload 0, .getfield 4195, .getfield 7203, .iload 1, .baload, .goto 8]
def b258_7 : List Instr := [.aload 0, .getfield 4139, .aload 0, .getfield 4195, .getfield 7203, .iload 1, .baload, .aaload, .getfield 38937, .aload 0, .getfield 4195, .getfield 7187, .iload 1, .baload, .i2l, .lmul, .l2i, .goto_w 8]
def b258_8 : List Instr := [.jsr 0]
/-- TimberHouse$FaultRips.at(II)I -/
def m258 : pm_M := (fun j => [b258_0, b258_1, b258_2, b258_3, b258_4, b258_5, b258_6, b258_7, b258_8].getD j [], fun _ => [], 4, 3)
def b259_0 : List Instr := [.iload 0, .ifCond .ne 1, .ret 71, .athrow]
def b259_1 : List Instr := [.return_]
/-- TimberHouse$FaultRips.can(Z)V -/
def m259 : pm_M := (fun j => [b259_0, b259_1].getD j [], fun _ => [], 0, 1)
def b260_0 : List Instr := [.lload 0, .lload 2, .lcmp, .ifCond .lt 1, .lload 0, .lload 4, .lcmp, .ifCond .gt 1, .sipush 1, .goto 2]
def b260_1 : List Instr := [.sipush 0, .goto_w 2]
def b260_2 : List Instr := [.jsr 2]
/-- TimberHouse$FaultRips.isIn(JJJ)Z -/
def m260 : pm_M := (fun j => [b260_0, b260_1, b260_2].getD j [], fun _ => [], 0, 6)
def b261_0 : List Instr := [.iload 0, .ifCond .ne 1, .ret 67, .athrow]
def b261_1 : List Instr := [.return_]
/-- TimberHouse$FaultRips.there(Z)V -/
def m261 : pm_M := (fun j => [b261_0, b261_1].getD j [], fun _ => [], 0, 1)
def b262_0 : List Instr := [.iload 0, .ifCond .ne 1, .ret 70, .athrow]
def b262_1 : List Instr := [.return_]
/-- TimberHouse$FaultRips.proper(Z)V -/
def m262 : pm_M := (fun j => [b262_0, b262_1].getD j [], fun _ => [], 0, 1)
def b263_0 : List Instr := [.aload 0, .getfield 4226, .invokeinterface 259 1, .aload 0, .getfield 4195, .getfield 7217, .lreturn]
/-- TimberHouse$FaultRips.worth()J -/
def m263 : pm_M := (fun j => [b263_0].getD j [], fun _ => [], 4, 1)
def b264_0 : List Instr := [.iload 1, .ifCond .eq 1, .iload 1, .sipush 1, .if_icmp .ne 2, .goto_w 1]
def b264_1 : List Instr := [.sipush 1, .goto 3]
def b264_2 : List Instr := [.sipush 0, .goto_w 3]
def b264_3 : List Instr := [.invokeinterface 261 1, .aload 0, .getfield 4128, .sipush 20, .if_icmp .ge 4, .sipush 1, .goto 5]
def b264_4 : List Instr := [.sipush 0, .goto_w 5]
def b264_5 : List Instr := [.invokeinterface 259 1, .iload 2, .i2l, .bipush 0, .bipush 7, .invokeinterface 260 3, .ifCond .eq 6, .iload 3, .i2l, .bipush (-65536), .bipush 65536, .invokeinterface 260 3, .ifCond .eq 6, .iload 4, .i2l, .bipush (-65536), .bipush 65536, .invokeinterface 260 3, .ifCond .eq 6, .iload 5, .i2l, .bipush 0, .bipush 65536, .invokeinterface 260 3, .ifCond .eq 6, .iload 6, .i2l, .bipush 0, .bipush 65536, .invokeinterface 260 3, .ifCond .eq 6, .sipush 1, .goto 7]
def b264_6 : List Instr := [.sipush 0, .goto_w 7]
def b264_7 : List Instr := [.invokeinterface 262 1, .iload 5, .ifCond .eq 8, .iload 6, .ifCond .ne 9, .goto_w 8]
def b264_8 : List Instr := [.sipush 0, .jsr 2]
def b264_9 : List Instr := [.aload 0, .getfield 4123, .aload 0, .dup, .getfield 4128, .dup_x1, .sipush 1, .iadd, .putfield 4128, .new 37, .dup, .iload 1, .iload 2, .iload 3, .iload 4, .iload 5, .iload 6, .invokeinterface 2368 7, .aastore, .aload 0, .sipush 1, .invokeinterface 265 2, .jsr 2]
/-- TimberHouse$FaultRips.fault(IIIIII)Z -/
def m264 : pm_M := (fun j => [b264_0, b264_1, b264_2, b264_3, b264_4, b264_5, b264_6, b264_7, b264_8, b264_9].getD j [], fun _ => [], 4, 7)
def b265_0 : List Instr := [.aload 0, .dup, .getfield 4226, .iload 1, .ifCond .ne 1, .sipush 1, .goto 2]
def b265_1 : List Instr := [.sipush 0, .goto_w 2]
def b265_2 : List Instr := [.iand, .putfield 4226, .iload 1, .jsr 2]
/-- TimberHouse$FaultRips.told(Z)Z -/
def m265 : pm_M := (fun j => [b265_0, b265_1, b265_2].getD j [], fun _ => [], 4, 2)
def b266_0 : List Instr := [.aload 0, .getfield 4144, .sipush 8, .if_icmp .ge 1, .sipush 1, .goto 2]
def b266_1 : List Instr := [.sipush 0, .goto_w 2]
def b266_2 : List Instr := [.invokeinterface 259 1, .iload 1, .i2l, .bipush 1, .bipush 65536, .invokeinterface 260 3, .ifCond .eq 3, .iload 2, .i2l, .bipush 1, .bipush 65536, .invokeinterface 260 3, .ifCond .eq 3, .iload 3, .i2l, .iload 2, .i2l, .bipush 65536, .invokeinterface 260 3, .ifCond .eq 3, .lload 4, .bipush 1, .bipush 100000, .invokeinterface 260 3, .ifCond .eq 3, .sipush 1, .goto 4]
def b266_3 : List Instr := [.sipush 0, .goto_w 4]
def b266_4 : List Instr := [.invokeinterface 262 1, .aload 0, .getfield 4139, .aload 0, .getfield 4144, .new 38, .dup, .aload 0, .iload 1, .invokeinterface 267 2, .iload 2, .iload 3, .lload 4, .invokeinterface 2432 5, .aastore, .aload 0, .sipush 1, .invokeinterface 265 2, .istore 6, .aload 0, .dup, .getfield 4144, .dup_x1, .sipush 1, .iadd, .putfield 4144, .jsr 0]
/-- TimberHouse$FaultRips.piece(IIIJ)I -/
def m266 : pm_M := (fun j => [b266_0, b266_1, b266_2, b266_3, b266_4].getD j [], fun _ => [], 4, 7)
def b267_0 : List Instr := [.iload 1, .aload 0, .getfield 4096, .iadd, .sipush 1, .isub, .aload 0, .getfield 4096, .idiv, .jsr 0]
/-- TimberHouse$FaultRips.stepsOf(I)I -/
def m267 : pm_M := (fun j => [b267_0].getD j [], fun _ => [], 4, 2)
def b268_0 : List Instr := [.aload 0, .iload 1, .invokeinterface 269 2, .astore 4, .iload 2, .ifCond .eq 1, .iload 2, .sipush 1, .if_icmp .ne 2, .goto_w 1]
def b268_1 : List Instr := [.sipush 1, .goto 3]
def b268_2 : List Instr := [.sipush 0, .goto_w 3]
def b268_3 : List Instr := [.invokeinterface 261 1, .iload 3, .i2l, .bipush 0, .bipush 7, .invokeinterface 260 3, .invokeinterface 262 1, .aload 4, .getfield 38944, .istore 5, .aload 4, .dup, .getfield 38944, .sipush 1, .sipush 8, .iload 2, .imul, .iload 3, .iadd, .ishl, .ior, .putfield 38944, .aload 0, .aload 4, .getfield 38944, .iload 5, .if_icmp .eq 4, .sipush 1, .goto 5]
def b268_4 : List Instr := [.sipush 0, .goto_w 5]
def b268_5 : List Instr := [.invokeinterface 265 2, .jsr 2]
/-- TimberHouse$FaultRips.allows(III)Z -/
def m268 : pm_M := (fun j => [b268_0, b268_1, b268_2, b268_3, b268_4, b268_5].getD j [], fun _ => [], 4, 6)
def b269_0 : List Instr := [.iload 1, .ifCond .lt 1, .iload 1, .aload 0, .getfield 4144, .if_icmp .ge 1, .sipush 1, .goto 2]
def b269_1 : List Instr := [.sipush 0, .goto_w 2]
def b269_2 : List Instr := [.invokeinterface 261 1, .aload 0, .getfield 4139, .iload 1, .aaload, .areturn]
/-- TimberHouse$FaultRips.at(I)LTimberHouse$FaultRips$Piece; -/
def m269 : pm_M := (fun j => [b269_0, b269_1, b269_2].getD j [], fun _ => [], 4, 2)
def b270_0 : List Instr := [.iload 1, .i2l, .bipush 1, .bipush 65536, .invokeinterface 260 3, .invokeinterface 262 1, .aload 0, .iload 1, .invokeinterface 267 2, .istore 2, .aload 0, .aload 0, .getfield 4155, .iload 2, .baload, .ifCond .ne 1, .sipush 1, .goto 2]
def b270_1 : List Instr := [.sipush 0, .goto_w 2]
def b270_2 : List Instr := [.invokeinterface 265 2, .istore 3, .aload 0, .getfield 4155, .iload 2, .aload 0, .getfield 4187, .sipush 1, .dup_x1, .putfield 5138, .bastore, .iload 3, .jsr 2]
/-- TimberHouse$FaultRips.gang(I)Z -/
def m270 : pm_M := (fun j => [b270_0, b270_1, b270_2].getD j [], fun _ => [], 4, 4)
def b271_0 : List Instr := [.aload 0, .iload 1, .invokeinterface 269 2, .astore 3, .iload 2, .i2l, .bipush 0, .bipush 1000, .invokeinterface 260 3, .invokeinterface 262 1, .aload 0, .aload 3, .getfield 38952, .iload 2, .if_icmp .eq 1, .sipush 1, .goto 2]
def b271_1 : List Instr := [.sipush 0, .goto_w 2]
def b271_2 : List Instr := [.invokeinterface 265 2, .istore 4, .aload 3, .iload 2, .putfield 38952, .iload 4, .jsr 2]
/-- TimberHouse$FaultRips.need(II)Z -/
def m271 : pm_M := (fun j => [b271_0, b271_1, b271_2].getD j [], fun _ => [], 4, 5)
def b272_0 : List Instr := [.iload 1, .i2l, .bipush 0, .bipush 65536, .invokeinterface 260 3, .invokeinterface 262 1, .aload 0, .aload 0, .getfield 4160, .iload 1, .if_icmp .eq 1, .sipush 1, .goto 2]
def b272_1 : List Instr := [.sipush 0, .goto_w 2]
def b272_2 : List Instr := [.invokeinterface 265 2, .istore 2, .aload 0, .iload 1, .putfield 4160, .iload 2, .jsr 2]
/-- TimberHouse$FaultRips.margin(I)Z -/
def m272 : pm_M := (fun j => [b272_0, b272_1, b272_2].getD j [], fun _ => [], 4, 3)
def b273_0 : List Instr := [.iload 1, .i2l, .bipush 1, .bipush 16777216, .invokeinterface 260 3, .invokeinterface 262 1, .aload 0, .aload 0, .getfield 4168, .iload 1, .if_icmp .eq 1, .sipush 1, .goto 2]
def b273_1 : List Instr := [.sipush 0, .goto_w 2]
def b273_2 : List Instr := [.invokeinterface 265 2, .istore 2, .aload 0, .iload 1, .putfield 4168, .iload 2, .jsr 2]
/-- TimberHouse$FaultRips.bow(I)Z -/
def m273 : pm_M := (fun j => [b273_0, b273_1, b273_2].getD j [], fun _ => [], 4, 3)
def b274_0 : List Instr := [.iload 1, .i2l, .bipush 0, .bipush 1, .invokeinterface 260 3, .ifCond .eq 1, .iload 2, .i2l, .bipush 1, .bipush 3, .invokeinterface 260 3, .ifCond .eq 1, .sipush 1, .goto 2]
def b274_1 : List Instr := [.sipush 0, .goto_w 2]
def b274_2 : List Instr := [.invokeinterface 262 1, .aload 0, .iload 1, .putfield 4208, .aload 0, .iload 2, .putfield 4216, .aload 0, .invokeinterface 275 1, .aload 0, .aload 0, .aload 0, .getfield 4195, .invokeinterface 277 2, .putfield 4233, .aload 0, .sipush 1, .putfield 4226, .aload 0, .getfield 4195, .getfield 7208, .jsr 0]
/-- TimberHouse$FaultRips.run(II)I -/
def m274 : pm_M := (fun j => [b274_0, b274_1, b274_2].getD j [], fun _ => [], 4, 3)
def b275_0 : List Instr := [.sipush 0, .istore 1, .goto_w 1]
def b275_1 : List Instr := [.iload 1, .aload 0, .getfield 4104, .if_icmp .ge 12, .sipush 1, .istore 2, .goto_w 2]
def b275_2 : List Instr := [.iload 1, .iload 2, .iadd, .aload 0, .getfield 4104, .if_icmp .gt 11, .sipush 0, .istore 3, .goto_w 3]
def b275_3 : List Instr := [.iload 3, .aload 0, .getfield 4112, .if_icmp .ge 10, .sipush 1, .istore 4, .goto_w 4]
def b275_4 : List Instr := [.iload 3, .iload 4, .iadd, .aload 0, .getfield 4112, .if_icmp .gt 9, .aload 0, .iload 1, .iload 2, .iload 3, .iload 4, .invokeinterface 276 5, .istore 5, .sipush 0, .istore 6, .sipush 0, .istore 7, .goto_w 5]
def b275_5 : List Instr := [.iload 7, .aload 0, .getfield 4144, .if_icmp .ge 8, .iload 6, .aload 0, .getfield 4139, .iload 7, .aaload, .iload 2, .aload 0, .getfield 4096, .imul, .iload 4, .aload 0, .getfield 4168, .iload 5, .invokeinterface 2433 5, .ifCond .eq 6, .sipush 1, .iload 7, .ishl, .goto 7]
def b275_6 : List Instr := [.sipush 0, .goto_w 7]
def b275_7 : List Instr := [.ior, .istore 6, .iinc 7 1, .goto 5]
def b275_8 : List Instr := [.aload 0, .getfield 4179, .iload 1, .iload 2, .iload 3, .iload 4, .invokeinterface 321 4, .iload 6, .i2b, .bastore, .iinc 4 1, .goto 4]
def b275_9 : List Instr := [.iinc 3 1, .goto 3]
def b275_10 : List Instr := [.iinc 2 1, .goto 2]
def b275_11 : List Instr := [.iinc 1 1, .goto 1]
def b275_12 : List Instr := [.sipush 0, .istore 1, .goto_w 13]
def b275_13 : List Instr := [.iload 1, .aload 0, .getfield 4144, .if_icmp .ge 14, .aload 0, .getfield 4139, .iload 1, .aaload, .bipush 0, .putfield 38961, .iinc 1 1, .goto 13]
def b275_14 : List Instr := [.return_]
/-- TimberHouse$FaultRips.prepare()V -/
def m275 : pm_M := (fun j => [b275_0, b275_1, b275_2, b275_3, b275_4, b275_5, b275_6, b275_7, b275_8, b275_9, b275_10, b275_11, b275_12, b275_13, b275_14].getD j [], fun _ => [], 4, 8)
def b276_0 : List Instr := [.sipush 0, .istore 5, .sipush 0, .istore 6, .goto_w 1]
def b276_1 : List Instr := [.iload 6, .aload 0, .getfield 4128, .if_icmp .ge 4, .iload 5, .aload 0, .getfield 4123, .iload 6, .aaload, .iload 1, .aload 0, .getfield 4096, .imul, .iload 1, .iload 2, .iadd, .aload 0, .getfield 4096, .imul, .iload 3, .aload 0, .getfield 4096, .imul, .iload 3, .iload 4, .iadd, .aload 0, .getfield 4096, .imul, .aload 0, .getfield 4160, .invokeinterface 2369 6, .ifCond .eq 2, .aload 0, .getfield 4123, .iload 6, .aaload, .invokeinterface 2370 1, .goto 3]
def b276_2 : List Instr := [.sipush 0, .goto_w 3]
def b276_3 : List Instr := [.ior, .istore 5, .iinc 6 1, .goto 1]
def b276_4 : List Instr := [.iload 5, .jsr 0]
/-- TimberHouse$FaultRips.faultsIn(IIII)I -/
def m276 : pm_M := (fun j => [b276_0, b276_1, b276_2, b276_3, b276_4].getD j [], fun _ => [], 4, 7)
def b277_0 : List Instr := [.aload 0, .getfield 4187, .aload 0, .getfield 4179, .aload 0, .getfield 4144, .aload 0, .getfield 4104, .aload 0, .getfield 4112, .invokeinterface 322 5, .aload 1, .sipush 0, .putfield 7208, .bipush 0, .lstore 2, .aload 0, .getfield 4104, .ifCond .le 5, .aload 0, .getfield 4112, .ifCond .le 5, .aload 0, .getfield 4187, .aload 0, .getfield 4216, .aload 0, .getfield 4208, .ifCond .ne 1, .sipush 1, .goto 2]
def b277_1 : List Instr := [.sipush 0, .goto_w 2]
def b277_2 : List Instr := [.sipush 1, .sipush 0, .aload 0, .getfield 4104, .sipush 0, .aload 0, .getfield 4112, .invokeinterface 324 8, .lstore 2, .aload 0, .getfield 4187, .aload 0, .getfield 4216, .aload 0, .getfield 4208, .ifCond .ne 3, .sipush 1, .goto 4]
def b277_3 : List Instr := [.sipush 0, .goto_w 4]
def b277_4 : List Instr := [.sipush 1, .sipush 0, .aload 0, .getfield 4104, .sipush 0, .aload 0, .getfield 4112, .aload 1, .invokeinterface 328 9, .goto_w 5]
def b277_5 : List Instr := [.aload 1, .aload 0, .aload 1, .invokeinterface 278 2, .putfield 7217, .lload 2, .lreturn]
/-- TimberHouse$FaultRips.plan(LTimberHouse$FaultRips$Plan;)J -/
def m277 : pm_M := (fun j => [b277_0, b277_1, b277_2, b277_3, b277_4, b277_5].getD j [], fun _ => [], 4, 4)
def b278_0 : List Instr := [.bipush 0, .lstore 2, .sipush 0, .istore 4, .goto_w 1]
def b278_1 : List Instr := [.iload 4, .aload 1, .getfield 7208, .if_icmp .ge 2, .lload 2, .aload 0, .getfield 4139, .aload 1, .getfield 7203, .iload 4, .baload, .aaload, .getfield 38937, .aload 1, .getfield 7187, .iload 4, .baload, .i2l, .lmul, .ladd, .lstore 2, .iinc 4 1, .goto 1]
def b278_2 : List Instr := [.lload 2, .lreturn]
/-- TimberHouse$FaultRips.truly(LTimberHouse$FaultRips$Plan;)J -/
def m278 : pm_M := (fun j => [b278_0, b278_1, b278_2].getD j [], fun _ => [], 4, 5)
def b279_0 : List Instr := [.iload 1, .i2l, .bipush 1, .bipush 6, .invokeinterface 260 3, .invokeinterface 262 1, .aload 0, .invokeinterface 275 1, .sipush 0, .istore 2, .sipush 0, .istore 3, .goto_w 1]
def b279_1 : List Instr := [.iinc 3 1, .aload 0, .aload 0, .getfield 4203, .invokeinterface 277 2, .aload 0, .invokeinterface 280 1, .ladd, .lstore 5, .aload 0, .iload 3, .sipush 1, .if_icmp .ne 2, .lload 5, .goto 3]
def b279_2 : List Instr := [.aload 0, .getfield 4233, .lload 5, .invokeinterface 3842 2, .goto_w 3]
def b279_3 : List Instr := [.putfield 4233, .aload 0, .aload 0, .getfield 4203, .invokeinterface 281 2, .istore 7, .iload 7, .ifCond .eq 5, .iload 2, .ifCond .eq 4, .aload 0, .getfield 4203, .getfield 7217, .aload 0, .getfield 4195, .getfield 7217, .lcmp, .ifCond .le 5, .goto_w 4]
def b279_4 : List Instr := [.aload 0, .getfield 4195, .aload 0, .getfield 4203, .invokeinterface 451 2, .sipush 1, .istore 2, .goto_w 5]
def b279_5 : List Instr := [.iload 3, .iload 1, .if_icmp .eq 6, .iload 7, .ifCond .eq 7, .aload 0, .aload 0, .getfield 4203, .invokeinterface 282 2, .ifCond .eq 7, .goto_w 6]
def b279_6 : List Instr := [.sipush 1, .goto 8]
def b279_7 : List Instr := [.sipush 0, .goto_w 8]
def b279_8 : List Instr := [.istore 4, .iload 4, .ifCond .ne 9, .aload 0, .aload 0, .getfield 4203, .iload 3, .invokeinterface 283 3, .goto_w 9]
def b279_9 : List Instr := [.iload 4, .ifCond .eq 1, .iload 2, .ifCond .ne 10, .aload 0, .invokeinterface 284 1, .goto_w 10]
def b279_10 : List Instr := [.aload 0, .sipush 1, .putfield 4226, .iload 3, .jsr 0]
/-- TimberHouse$FaultRips.prices(I)I -/
def m279 : pm_M := (fun j => [b279_0, b279_1, b279_2, b279_3, b279_4, b279_5, b279_6, b279_7, b279_8, b279_9, b279_10].getD j [], fun _ => [], 4, 8)
def b280_0 : List Instr := [.bipush 0, .lstore 1, .sipush 0, .istore 3, .goto_w 1]
def b280_1 : List Instr := [.iload 3, .aload 0, .getfield 4144, .if_icmp .ge 4, .lload 1, .aload 0, .getfield 4139, .iload 3, .aaload, .getfield 38952, .sipush (-1), .if_icmp .ne 2, .bipush 0, .goto 3]
def b280_2 : List Instr := [.aload 0, .getfield 4139, .iload 3, .aaload, .getfield 38961, .aload 0, .getfield 4139, .iload 3, .aaload, .getfield 38952, .i2l, .lmul, .goto_w 3]
def b280_3 : List Instr := [.ladd, .lstore 1, .iinc 3 1, .goto 1]
def b280_4 : List Instr := [.lload 1, .lreturn]
/-- TimberHouse$FaultRips.needs()J -/
def m280 : pm_M := (fun j => [b280_0, b280_1, b280_2, b280_3, b280_4].getD j [], fun _ => [], 4, 4)
def b281_0 : List Instr := [.sipush 1, .istore 2, .sipush 0, .istore 3, .goto_w 1]
def b281_1 : List Instr := [.iload 3, .aload 0, .getfield 4144, .if_icmp .ge 5, .iload 2, .aload 0, .getfield 4139, .iload 3, .aaload, .getfield 38952, .sipush (-1), .if_icmp .eq 2, .aload 1, .iload 3, .invokeinterface 450 2, .aload 0, .getfield 4139, .iload 3, .aaload, .getfield 38952, .if_icmp .gt 3, .goto_w 2]
def b281_2 : List Instr := [.sipush 1, .goto 4]
def b281_3 : List Instr := [.sipush 0, .goto_w 4]
def b281_4 : List Instr := [.iand, .istore 2, .iinc 3 1, .goto 1]
def b281_5 : List Instr := [.iload 2, .jsr 2]
/-- TimberHouse$FaultRips.holds(LTimberHouse$FaultRips$Plan;)Z -/
def m281 : pm_M := (fun j => [b281_0, b281_1, b281_2, b281_3, b281_4, b281_5].getD j [], fun _ => [], 4, 4)
def b282_0 : List Instr := [.sipush 1, .istore 2, .sipush 0, .istore 3, .goto_w 1]
def b282_1 : List Instr := [.iload 3, .aload 0, .getfield 4144, .if_icmp .ge 5, .iload 2, .aload 0, .getfield 4139, .iload 3, .aaload, .getfield 38961, .bipush 0, .lcmp, .ifCond .eq 2, .aload 1, .iload 3, .invokeinterface 450 2, .aload 0, .getfield 4139, .iload 3, .aaload, .getfield 38952, .if_icmp .ne 3, .goto_w 2]
def b282_2 : List Instr := [.sipush 1, .goto 4]
def b282_3 : List Instr := [.sipush 0, .goto_w 4]
def b282_4 : List Instr := [.iand, .istore 2, .iinc 3 1, .goto 1]
def b282_5 : List Instr := [.iload 2, .jsr 2]
/-- TimberHouse$FaultRips.isTight(LTimberHouse$FaultRips$Plan;)Z -/
def m282 : pm_M := (fun j => [b282_0, b282_1, b282_2, b282_3, b282_4, b282_5].getD j [], fun _ => [], 4, 4)
def b283_0 : List Instr := [.sipush 0, .istore 3, .goto_w 1]
def b283_1 : List Instr := [.iload 3, .aload 0, .getfield 4144, .if_icmp .ge 3, .aload 0, .getfield 4139, .iload 3, .aaload, .astore 4, .aload 4, .getfield 38952, .sipush (-1), .if_icmp .eq 2, .aload 4, .bipush 0, .aload 4, .getfield 38961, .aload 1, .iload 3, .invokeinterface 450 2, .aload 4, .getfield 38952, .isub, .i2l, .sipush 1, .sipush 256, .iload 2, .idiv, .invokeinterface 3841 2, .i2l, .lmul, .ladd, .invokeinterface 3843 2, .putfield 38961, .goto_w 2]
def b283_2 : List Instr := [.iinc 3 1, .goto 1]
def b283_3 : List Instr := [.return_]
/-- TimberHouse$FaultRips.raise(LTimberHouse$FaultRips$Plan;I)V -/
def m283 : pm_M := (fun j => [b283_0, b283_1, b283_2, b283_3].getD j [], fun _ => [], 4, 5)
def b284_0 : List Instr := [.aload 0, .getfield 4195, .aload 0, .getfield 4203, .invokeinterface 451 2, .sipush 0, .istore 1, .goto_w 1]
def b284_1 : List Instr := [.iload 1, .aload 0, .getfield 4144, .if_icmp .ge 4, .goto_w 2]
def b284_2 : List Instr := [.aload 0, .getfield 4139, .iload 1, .aaload, .getfield 38952, .sipush (-1), .if_icmp .eq 3, .aload 0, .getfield 4195, .iload 1, .invokeinterface 450 2, .aload 0, .getfield 4139, .iload 1, .aaload, .getfield 38952, .if_icmp .le 3, .aload 0, .getfield 4195, .iload 1, .invokeinterface 453 2, .goto 2]
def b284_3 : List Instr := [.iinc 1 1, .goto 1]
def b284_4 : List Instr := [.aload 0, .getfield 4195, .aload 0, .aload 0, .getfield 4195, .invokeinterface 278 2, .putfield 7217, .return_]
/-- TimberHouse$FaultRips.cutBack()V -/
def m284 : pm_M := (fun j => [b284_0, b284_1, b284_2, b284_3, b284_4].getD j [], fun _ => [], 4, 2)
def b285_0 : List Instr := [.aload 0, .getfield 4226, .invokeinterface 259 1, .iload 1, .i2l, .bipush 0, .aload 0, .getfield 4195, .getfield 7208, .sipush 1, .isub, .i2l, .invokeinterface 260 3, .invokeinterface 261 1, .aload 0, .aload 0, .getfield 4195, .getfield 7171, .iload 1, .baload, .aload 0, .getfield 4195, .getfield 7187, .iload 1, .baload, .aload 0, .getfield 4195, .getfield 7179, .iload 1, .baload, .aload 0, .getfield 4195, .getfield 7195, .iload 1, .baload, .invokeinterface 276 5, .ifCond .ne 1, .sipush 1, .goto 2]
def b285_1 : List Instr := [.sipush 0, .goto_w 2]
def b285_2 : List Instr := [.jsr 2]
/-- TimberHouse$FaultRips.clear2(I)Z -/
def m285 : pm_M := (fun j => [b285_0, b285_1, b285_2].getD j [], fun _ => [], 4, 2)
def b286_0 : List Instr := [.aload 0, .getfield 4226, .invokeinterface 259 1, .aload 0, .getfield 4233, .lreturn]
/-- TimberHouse$FaultRips.bound()J -/
def m286 : pm_M := (fun j => [b286_0].getD j [], fun _ => [], 4, 1)
def b287_0 : List Instr := [.aload 0, .getfield 4226, .invokeinterface 259 1, .aload 0, .iload 1, .invokeinterface 269 2, .astore 3, .iload 2, .i2l, .bipush 0, .bipush 2, .invokeinterface 260 3, .invokeinterface 261 1, .iload 2, .ifCond .ne 1, .aload 3, .getfield 38961, .goto 3]
def b287_1 : List Instr := [.iload 2, .sipush 1, .if_icmp .ne 2, .aload 0, .getfield 4195, .iload 1, .invokeinterface 450 2, .i2l, .goto 3]
def b287_2 : List Instr := [.aload 3, .getfield 38952, .i2l, .goto_w 3]
def b287_3 : List Instr := [.lreturn]
/-- TimberHouse$FaultRips.price(II)J -/
def m287 : pm_M := (fun j => [b287_0, b287_1, b287_2, b287_3].getD j [], fun _ => [], 4, 4)
def b288_0 : List Instr := [.aload 0, .getfield 4226, .invokeinterface 259 1, .aload 0, .invokeinterface 289 1, .aload 0, .sipush (-1), .sipush 0, .invokeinterface 290 3, .istore 3, .iload 1, .i2l, .bipush (-1), .iload 3, .sipush 1, .isub, .i2l, .invokeinterface 260 3, .invokeinterface 261 1, .iload 2, .i2l, .bipush 0, .bipush 2, .invokeinterface 260 3, .invokeinterface 262 1, .iload 1, .sipush (-1), .if_icmp .ne 1, .iload 3, .goto 2]
def b288_1 : List Instr := [.aload 0, .iload 1, .iload 2, .invokeinterface 290 3, .goto_w 2]
def b288_2 : List Instr := [.jsr 0]
/-- TimberHouse$FaultRips.salvage(II)I -/
def m288 : pm_M := (fun j => [b288_0, b288_1, b288_2].getD j [], fun _ => [], 4, 4)
def b289_0 : List Instr := [.sipush 0, .istore 1, .goto_w 1]
def b289_1 : List Instr := [.iload 1, .sipush 240, .if_icmp .ge 2, .aload 0, .getfield 4243, .iload 1, .sipush 0, .bastore, .iinc 1 1, .goto 1]
def b289_2 : List Instr := [.sipush 0, .istore 1, .goto_w 3]
def b289_3 : List Instr := [.iload 1, .aload 0, .getfield 4195, .getfield 7208, .if_icmp .ge 8, .aload 0, .getfield 4195, .getfield 7179, .iload 1, .baload, .istore 2, .goto_w 4]
def b289_4 : List Instr := [.iload 2, .aload 0, .getfield 4195, .getfield 7179, .iload 1, .baload, .aload 0, .getfield 4195, .getfield 7195, .iload 1, .baload, .iadd, .if_icmp .ge 7, .aload 0, .getfield 4195, .getfield 7171, .iload 1, .baload, .istore 3, .goto_w 5]
def b289_5 : List Instr := [.iload 3, .aload 0, .getfield 4195, .getfield 7171, .iload 1, .baload, .aload 0, .getfield 4195, .getfield 7187, .iload 1, .baload, .iadd, .if_icmp .ge 6, .aload 0, .getfield 4243, .sipush 24, .iload 2, .imul, .iload 3, .iadd, .sipush 1, .bastore, .iinc 3 1, .goto 5]
def b289_6 : List Instr := [.iinc 2 1, .goto 4]
def b289_7 : List Instr := [.iinc 1 1, .goto 3]
def b289_8 : List Instr := [.return_]
/-- TimberHouse$FaultRips.cover()V -/
def m289 : pm_M := (fun j => [b289_0, b289_1, b289_2, b289_3, b289_4, b289_5, b289_6, b289_7, b289_8].getD j [], fun _ => [], 4, 4)
def b290_0 : List Instr := [.sipush 0, .istore 3, .sipush 0, .istore 4, .goto_w 1]
def b290_1 : List Instr := [.iload 4, .aload 0, .getfield 4112, .if_icmp .ge 12, .sipush (-1), .istore 5, .sipush 0, .istore 6, .goto_w 2]
def b290_2 : List Instr := [.iload 6, .aload 0, .getfield 4104, .if_icmp .gt 11, .iload 6, .aload 0, .getfield 4104, .if_icmp .ge 3, .aload 0, .getfield 4243, .sipush 24, .iload 4, .imul, .iload 6, .iadd, .baload, .ifCond .ne 3, .sipush 1, .goto 4]
def b290_3 : List Instr := [.sipush 0, .goto_w 4]
def b290_4 : List Instr := [.istore 7, .iload 7, .ifCond .eq 5, .iload 5, .sipush (-1), .if_icmp .ne 5, .iload 6, .istore 5, .goto 10]
def b290_5 : List Instr := [.iload 7, .ifCond .ne 10, .iload 5, .sipush (-1), .if_icmp .eq 10, .iload 3, .iinc 3 1, .iload 1, .if_icmp .ne 9, .iload 2, .ifCond .ne 6, .iload 5, .goto 8]
def b290_6 : List Instr := [.iload 2, .sipush 1, .if_icmp .ne 7, .iload 4, .goto 8]
def b290_7 : List Instr := [.iload 6, .iload 5, .isub, .goto_w 8]
def b290_8 : List Instr := [.jsr 0]
def b290_9 : List Instr := [.sipush (-1), .istore 5, .goto_w 10]
def b290_10 : List Instr := [.iinc 6 1, .goto 2]
def b290_11 : List Instr := [.iinc 4 1, .goto 1]
def b290_12 : List Instr := [.iload 3, .jsr 0]
/-- TimberHouse$FaultRips.rest(II)I -/
def m290 : pm_M := (fun j => [b290_0, b290_1, b290_2, b290_3, b290_4, b290_5, b290_6, b290_7, b290_8, b290_9, b290_10, b290_11, b290_12].getD j [], fun _ => [], 4, 8)
def b291_0 : List Instr := [.aload 0, .getfield 4226, .invokeinterface 259 1, .iload 1, .i2l, .bipush 1, .bipush 100, .invokeinterface 260 3, .ifCond .eq 1, .iload 2, .ifCond .lt 1, .sipush 1, .goto 2]
def b291_1 : List Instr := [.sipush 0, .goto_w 2]
def b291_2 : List Instr := [.invokeinterface 262 1, .sipush 241, .istore 3, .sipush 101, .istore 4, .sipush 0, .istore 5, .goto_w 3]
def b291_3 : List Instr := [.iload 5, .iload 1, .if_icmp .gt 6, .aload 0, .getfield 4251, .iload 4, .aload 0, .getfield 4195, .getfield 7208, .imul, .iload 5, .iadd, .iload 5, .ifCond .ne 4, .sipush 0, .goto 5]
def b291_4 : List Instr := [.iload 3, .goto_w 5]
def b291_5 : List Instr := [.iastore, .iinc 5 1, .goto 3]
def b291_6 : List Instr := [.aload 0, .getfield 4195, .getfield 7208, .sipush 1, .isub, .istore 5, .goto_w 7]
def b291_7 : List Instr := [.iload 5, .ifCond .lt 12, .sipush 0, .istore 6, .goto_w 8]
def b291_8 : List Instr := [.iload 6, .iload 1, .if_icmp .gt 11, .aload 0, .getfield 4251, .iload 4, .iload 5, .sipush 1, .iadd, .imul, .iload 6, .iadd, .iaload, .istore 7, .iload 6, .aload 0, .getfield 4195, .getfield 7195, .iload 5, .baload, .if_icmp .ge 9, .iload 3, .goto 10]
def b291_9 : List Instr := [.sipush 1, .aload 0, .getfield 4251, .iload 4, .iload 5, .sipush 1, .iadd, .imul, .iload 6, .iadd, .aload 0, .getfield 4195, .getfield 7195, .iload 5, .baload, .isub, .iaload, .iadd, .goto_w 10]
def b291_10 : List Instr := [.istore 8, .aload 0, .getfield 4251, .iload 4, .iload 5, .imul, .iload 6, .iadd, .iload 7, .iload 8, .invokeinterface 3840 2, .iastore, .iinc 6 1, .goto 8]
def b291_11 : List Instr := [.iinc 5 (-1), .goto 7]
def b291_12 : List Instr := [.aload 0, .getfield 4251, .iload 1, .iaload, .iload 3, .if_icmp .lt 13, .sipush (-1), .jsr 0]
def b291_13 : List Instr := [.iload 1, .istore 5, .sipush 0, .istore 6, .sipush 0, .istore 7, .goto_w 14]
def b291_14 : List Instr := [.iload 7, .aload 0, .getfield 4195, .getfield 7208, .if_icmp .ge 20, .iload 5, .ifCond .le 20, .iload 5, .aload 0, .getfield 4195, .getfield 7195, .iload 7, .baload, .if_icmp .lt 15, .sipush 1, .aload 0, .getfield 4251, .iload 4, .iload 7, .sipush 1, .iadd, .imul, .iload 5, .iadd, .aload 0, .getfield 4195, .getfield 7195, .iload 7, .baload, .isub, .iaload, .iadd, .aload 0, .getfield 4251, .iload 4, .iload 7, .imul, .iload 5, .iadd, .iaload, .if_icmp .ne 15, .sipush 1, .goto 16]
def b291_15 : List Instr := [.sipush 0, .goto_w 16]
def b291_16 : List Instr := [.istore 8, .iload 8, .ifCond .eq 17, .iload 6, .iinc 6 1, .iload 2, .if_icmp .ne 17, .iload 7, .jsr 0]
def b291_17 : List Instr := [.iload 5, .iload 8, .ifCond .eq 18, .aload 0, .getfield 4195, .getfield 7195, .iload 7, .baload, .goto 19]
def b291_18 : List Instr := [.sipush 0, .goto_w 19]
def b291_19 : List Instr := [.isub, .istore 5, .iinc 7 1, .goto 14]
def b291_20 : List Instr := [.sipush (-1), .jsr 0]
/-- TimberHouse$FaultRips.panel(II)I -/
def m291 : pm_M := (fun j => [b291_0, b291_1, b291_2, b291_3, b291_4, b291_5, b291_6, b291_7, b291_8, b291_9, b291_10, b291_11, b291_12, b291_13, b291_14, b291_15, b291_16, b291_17, b291_18, b291_19, b291_20].getD j [], fun _ => [], 4, 9)
def b292_0 : List Instr := [.aload 0, .getfield 4226, .invokeinterface 259 1, .aload 0, .getfield 4195, .getfield 7217, .aload 0, .getfield 4233, .lcmp, .ifCond .ne 1, .sipush 1, .goto 2]
def b292_1 : List Instr := [.sipush 0, .goto_w 2]
def b292_2 : List Instr := [.jsr 2]
/-- TimberHouse$FaultRips.greatest()Z -/
def m292 : pm_M := (fun j => [b292_0, b292_1, b292_2].getD j [], fun _ => [], 4, 1)
def b320_0 : List Instr := [.aload 0, .f2i, .aload 0, .sipush 75625, .newarray .byte, .putfield 5147, .aload 0, .sipush 4, .anewarray 18, .putfield 5155, .aload 0, .aload 1, .putfield 5123, .aload 0, .aload 2, .putfield 5131, .sipush 0, .istore 3, .goto_w 1]
def b320_1 : List Instr := [.iload 3, .aload 0, .getfield 5155, .arraylength, .if_icmp .ge 2, .aload 0, .getfield 5155, .iload 3, .new 6, .dup, .invokeinterface 384 1, .aastore, .iinc 3 1, .goto 1]
def b320_2 : List Instr := [.return_]
/-- TimberHouse$FaultRips$Planner.<init>([LTimberHouse$FaultRips$Piece;[Z)V -/
def m320 : pm_M := (fun j => [b320_0, b320_1, b320_2].getD j [], fun _ => [], 5, 4)
def b321_0 : List Instr := [.iload 0, .sipush 25, .imul, .iload 1, .iadd, .sipush 11, .imul, .iload 2, .iadd, .sipush 11, .imul, .iload 3, .iadd, .jsr 0]
/-- TimberHouse$FaultRips$Planner.cell(IIII)I -/
def m321 : pm_M := (fun j => [b321_0].getD j [], fun _ => [], 0, 4)
def b322_0 : List Instr := [.sipush 0, .istore 5, .goto_w 1]
def b322_1 : List Instr := [.iload 5, .iload 3, .if_icmp .ge 12, .sipush 1, .istore 6, .goto_w 2]
def b322_2 : List Instr := [.iload 5, .iload 6, .iadd, .iload 3, .if_icmp .gt 11, .sipush 0, .istore 7, .goto_w 3]
def b322_3 : List Instr := [.iload 7, .iload 4, .if_icmp .ge 10, .sipush 1, .istore 8, .goto_w 4]
def b322_4 : List Instr := [.iload 7, .iload 8, .iadd, .iload 4, .if_icmp .gt 9, .iload 5, .iload 6, .iload 7, .iload 8, .invokeinterface 321 4, .istore 9, .sipush (-1), .istore 10, .sipush 0, .istore 11, .goto_w 5]
def b322_5 : List Instr := [.iload 11, .iload 2, .if_icmp .ge 8, .aload 1, .iload 9, .baload, .iload 11, .ishr, .sipush 1, .iand, .sipush 1, .if_icmp .ne 7, .iload 10, .sipush (-1), .if_icmp .eq 6, .aload 0, .iload 11, .iload 6, .invokeinterface 323 3, .aload 0, .iload 10, .iload 6, .invokeinterface 323 3, .lcmp, .ifCond .le 7, .goto_w 6]
def b322_6 : List Instr := [.iload 11, .istore 10, .goto_w 7]
def b322_7 : List Instr := [.iinc 11 1, .goto 5]
def b322_8 : List Instr := [.aload 0, .getfield 5147, .iload 9, .iload 10, .i2b, .bastore, .iinc 8 1, .goto 4]
def b322_9 : List Instr := [.iinc 7 1, .goto 3]
def b322_10 : List Instr := [.iinc 6 1, .goto 2]
def b322_11 : List Instr := [.iinc 5 1, .goto 1]
def b322_12 : List Instr := [.return_]
/-- TimberHouse$FaultRips$Planner.choose([BIII)V -/
def m322 : pm_M := (fun j => [b322_0, b322_1, b322_2, b322_3, b322_4, b322_5, b322_6, b322_7, b322_8, b322_9, b322_10, b322_11, b322_12].getD j [], fun _ => [], 5, 12)
def b323_0 : List Instr := [.aload 0, .getfield 5123, .iload 1, .aaload, .getfield 38937, .iload 2, .i2l, .lmul, .aload 0, .getfield 5123, .iload 1, .aaload, .getfield 38961, .lsub, .lreturn]
/-- TimberHouse$FaultRips$Planner.worth(II)J -/
def m323 : pm_M := (fun j => [b323_0].getD j [], fun _ => [], 5, 3)
def b324_0 : List Instr := [.iload 1, .ifCond .ne 5, .aload 0, .getfield 5147, .iload 4, .iload 5, .iload 6, .iload 7, .invokeinterface 321 4, .baload, .istore 8, .aload 0, .iload 8, .sipush (-1), .if_icmp .ne 1, .sipush 0, .goto 2]
def b324_1 : List Instr := [.sipush 1, .goto_w 2]
def b324_2 : List Instr := [.putfield 5160, .iload 8, .sipush (-1), .if_icmp .ne 3, .bipush 0, .goto 4]
def b324_3 : List Instr := [.aload 0, .iload 8, .iload 5, .invokeinterface 323 3, .goto_w 4]
def b324_4 : List Instr := [.lreturn]
def b324_5 : List Instr := [.aload 0, .iload 1, .iload 2, .iload 3, .iload 4, .iload 5, .iload 6, .iload 7, .invokeinterface 325 8, .aload 0, .aload 0, .getfield 5155, .iload 1, .aaload, .getfield 6155, .sipush 0, .iaload, .putfield 5160, .aload 0, .getfield 5155, .iload 1, .aaload, .getfield 6147, .sipush 0, .laload, .lreturn]
/-- TimberHouse$FaultRips$Planner.plan(IZZIIII)J -/
def m324 : pm_M := (fun j => [b324_0, b324_1, b324_2, b324_3, b324_4, b324_5].getD j [], fun _ => [], 5, 9)
def b325_0 : List Instr := [.aload 0, .getfield 5155, .iload 1, .aaload, .astore 8, .iload 2, .ifCond .eq 1, .iload 7, .goto 2]
def b325_1 : List Instr := [.iload 5, .goto_w 2]
def b325_2 : List Instr := [.istore 9, .aload 8, .getfield 6147, .iload 9, .bipush 0, .lastore, .aload 8, .getfield 6155, .iload 9, .sipush 0, .iastore, .iload 9, .sipush 1, .isub, .istore 10, .goto_w 3]
def b325_3 : List Instr := [.iload 10, .ifCond .lt 10, .aload 8, .getfield 6147, .iload 10, .sipush 1, .iadd, .laload, .lstore 11, .aload 8, .getfield 6155, .iload 10, .sipush 1, .iadd, .iaload, .istore 13, .sipush 1, .istore 14, .goto_w 4]
def b325_4 : List Instr := [.iload 10, .iload 14, .iadd, .iload 9, .if_icmp .gt 9, .aload 0, .iload 2, .iload 3, .iload 14, .invokeinterface 326 4, .ifCond .ne 5, .goto 8]
def b325_5 : List Instr := [.aload 0, .iload 1, .iload 2, .iload 4, .iload 5, .iload 6, .iload 7, .iload 10, .iload 14, .invokeinterface 327 9, .lstore 15, .aload 0, .getfield 5160, .istore 17, .iload 17, .ifCond .ne 6, .goto 8]
def b325_6 : List Instr := [.lload 15, .aload 8, .getfield 6147, .iload 10, .iload 14, .iadd, .laload, .ladd, .lstore 15, .iload 17, .aload 8, .getfield 6155, .iload 10, .iload 14, .iadd, .iaload, .iadd, .istore 17, .lload 15, .lload 11, .lcmp, .ifCond .gt 7, .lload 15, .lload 11, .lcmp, .ifCond .ne 8, .iload 17, .iload 13, .if_icmp .ge 8, .goto_w 7]
def b325_7 : List Instr := [.lload 15, .lstore 11, .iload 17, .istore 13, .goto_w 8]
def b325_8 : List Instr := [.iinc 14 1, .goto 4]
def b325_9 : List Instr := [.aload 8, .getfield 6147, .iload 10, .lload 11, .lastore, .aload 8, .getfield 6155, .iload 10, .iload 13, .iastore, .iinc 10 (-1), .goto 3]
def b325_10 : List Instr := [.return_]
/-- TimberHouse$FaultRips$Planner.fill(IZZIIII)V -/
def m325 : pm_M := (fun j => [b325_0, b325_1, b325_2, b325_3, b325_4, b325_5, b325_6, b325_7, b325_8, b325_9, b325_10].getD j [], fun _ => [], 5, 18)
def b326_0 : List Instr := [.iload 2, .ifCond .eq 1, .iload 1, .ifCond .eq 1, .aload 0, .getfield 5138, .ifCond .eq 1, .aload 0, .getfield 5131, .iload 3, .baload, .ifCond .eq 2, .goto_w 1]
def b326_1 : List Instr := [.sipush 1, .goto 3]
def b326_2 : List Instr := [.sipush 0, .goto_w 3]
def b326_3 : List Instr := [.jsr 2]
/-- TimberHouse$FaultRips$Planner.fits(ZZI)Z -/
def m326 : pm_M := (fun j => [b326_0, b326_1, b326_2, b326_3].getD j [], fun _ => [], 5, 4)
def b327_0 : List Instr := [.iload 2, .ifCond .eq 1, .aload 0, .iload 1, .sipush 1, .isub, .sipush 0, .sipush 0, .iload 3, .iload 4, .iload 5, .iload 7, .iadd, .iload 8, .invokeinterface 324 8, .goto 2]
def b327_1 : List Instr := [.aload 0, .iload 1, .sipush 1, .isub, .sipush 1, .sipush 0, .iload 3, .iload 7, .iadd, .iload 8, .iload 5, .iload 6, .invokeinterface 324 8, .goto_w 2]
def b327_2 : List Instr := [.lreturn]
/-- TimberHouse$FaultRips$Planner.segment(IZIIIIII)J -/
def m327 : pm_M := (fun j => [b327_0, b327_1, b327_2].getD j [], fun _ => [], 5, 9)
def b328_0 : List Instr := [.iload 1, .ifCond .ne 1, .aload 8, .iload 4, .iload 5, .iload 6, .iload 7, .aload 0, .getfield 5147, .iload 4, .iload 5, .iload 6, .iload 7, .invokeinterface 321 4, .baload, .invokeinterface 449 6, .return_]
def b328_1 : List Instr := [.aload 0, .iload 1, .iload 2, .iload 3, .iload 4, .iload 5, .iload 6, .iload 7, .invokeinterface 325 8, .aload 0, .getfield 5155, .iload 1, .aaload, .astore 9, .iload 2, .ifCond .eq 2, .iload 7, .goto 3]
def b328_2 : List Instr := [.iload 5, .goto_w 3]
def b328_3 : List Instr := [.istore 10, .sipush 0, .istore 11, .goto_w 4]
def b328_4 : List Instr := [.iload 11, .iload 10, .if_icmp .ge 9, .iload 10, .iload 11, .isub, .istore 12, .goto_w 5]
def b328_5 : List Instr := [.iload 12, .ifCond .le 6, .aload 0, .iload 1, .iload 2, .iload 3, .iload 4, .iload 5, .iload 6, .iload 7, .iload 11, .iload 12, .invokeinterface 329 10, .ifCond .ne 6, .iinc 12 (-1), .goto 5]
def b328_6 : List Instr := [.iload 12, .ifCond .le 7, .iload 2, .ifCond .eq 7, .aload 0, .iload 1, .sipush 1, .isub, .sipush 0, .sipush 0, .iload 4, .iload 5, .iload 6, .iload 11, .iadd, .iload 12, .aload 8, .invokeinterface 328 9, .goto 8]
def b328_7 : List Instr := [.iload 12, .ifCond .le 8, .aload 0, .iload 1, .sipush 1, .isub, .sipush 1, .sipush 0, .iload 4, .iload 11, .iadd, .iload 12, .iload 6, .iload 7, .aload 8, .invokeinterface 328 9, .goto_w 8]
def b328_8 : List Instr := [.iload 11, .sipush 1, .iload 12, .invokeinterface 3841 2, .iadd, .istore 11, .goto 4]
def b328_9 : List Instr := [.return_]
/-- TimberHouse$FaultRips$Planner.walk(IZZIIIILTimberHouse$FaultRips$Plan;)V -/
def m328 : pm_M := (fun j => [b328_0, b328_1, b328_2, b328_3, b328_4, b328_5, b328_6, b328_7, b328_8, b328_9].getD j [], fun _ => [], 5, 13)
def b329_0 : List Instr := [.aload 0, .iload 2, .iload 3, .iload 9, .invokeinterface 326 4, .ifCond .ne 1, .sipush 0, .jsr 2]
def b329_1 : List Instr := [.aload 0, .getfield 5155, .iload 1, .aaload, .astore 10, .aload 0, .iload 1, .iload 2, .iload 4, .iload 5, .iload 6, .iload 7, .iload 8, .iload 9, .invokeinterface 327 9, .lstore 11, .aload 0, .getfield 5160, .ifCond .le 2, .lload 11, .aload 10, .getfield 6147, .iload 8, .iload 9, .iadd, .laload, .ladd, .aload 10, .getfield 6147, .iload 8, .laload, .lcmp, .ifCond .ne 2, .aload 0, .getfield 5160, .aload 10, .getfield 6155, .iload 8, .iload 9, .iadd, .iaload, .iadd, .aload 10, .getfield 6155, .iload 8, .iaload, .if_icmp .ne 2, .sipush 1, .goto 3]
def b329_2 : List Instr := [.sipush 0, .goto_w 3]
def b329_3 : List Instr := [.jsr 2]
/-- TimberHouse$FaultRips$Planner.goesOn(IZZIIIIII)Z -/
def m329 : pm_M := (fun j => [b329_0, b329_1, b329_2, b329_3].getD j [], fun _ => [], 5, 13)
def b384_0 : List Instr := [.aload 0, .f2i, .aload 0, .sipush 25, .newarray .long, .putfield 6147, .aload 0, .sipush 25, .newarray .int, .putfield 6155, .return_]
/-- TimberHouse$FaultRips$Table.<init>()V -/
def m384 : pm_M := (fun j => [b384_0].getD j [], fun _ => [], 6, 1)
def b448_0 : List Instr := [.aload 0, .f2i, .aload 0, .sipush 240, .newarray .byte, .putfield 7171, .aload 0, .sipush 240, .newarray .byte, .putfield 7179, .aload 0, .sipush 240, .newarray .byte, .putfield 7187, .aload 0, .sipush 240, .newarray .byte, .putfield 7195, .aload 0, .sipush 240, .newarray .byte, .putfield 7203, .return_]
/-- TimberHouse$FaultRips$Plan.<init>()V -/
def m448 : pm_M := (fun j => [b448_0].getD j [], fun _ => [], 7, 1)
def b449_0 : List Instr := [.aload 0, .getfield 7171, .aload 0, .getfield 7208, .iload 1, .i2b, .bastore, .aload 0, .getfield 7187, .aload 0, .getfield 7208, .iload 2, .i2b, .bastore, .aload 0, .getfield 7179, .aload 0, .getfield 7208, .iload 3, .i2b, .bastore, .aload 0, .getfield 7195, .aload 0, .getfield 7208, .iload 4, .i2b, .bastore, .aload 0, .getfield 7203, .aload 0, .dup, .getfield 7208, .dup_x1, .sipush 1, .iadd, .putfield 7208, .iload 5, .i2b, .bastore, .return_]
/-- TimberHouse$FaultRips$Plan.add(IIIII)V -/
def m449 : pm_M := (fun j => [b449_0].getD j [], fun _ => [], 7, 6)
def b450_0 : List Instr := [.sipush 0, .istore 2, .sipush 0, .istore 3, .goto_w 1]
def b450_1 : List Instr := [.iload 3, .aload 0, .getfield 7208, .if_icmp .ge 4, .iload 2, .aload 0, .getfield 7203, .iload 3, .baload, .iload 1, .if_icmp .ne 2, .sipush 1, .goto 3]
def b450_2 : List Instr := [.sipush 0, .goto_w 3]
def b450_3 : List Instr := [.iadd, .istore 2, .iinc 3 1, .goto 1]
def b450_4 : List Instr := [.iload 2, .jsr 0]
/-- TimberHouse$FaultRips$Plan.count(I)I -/
def m450 : pm_M := (fun j => [b450_0, b450_1, b450_2, b450_3, b450_4].getD j [], fun _ => [], 7, 4)
def b451_0 : List Instr := [.aload 0, .aload 1, .getfield 7208, .putfield 7208, .aload 0, .aload 1, .getfield 7217, .putfield 7217, .sipush 0, .istore 2, .goto_w 1]
def b451_1 : List Instr := [.iload 2, .aload 0, .getfield 7208, .if_icmp .ge 2, .aload 0, .aload 1, .iload 2, .iload 2, .invokeinterface 452 4, .iinc 2 1, .goto 1]
def b451_2 : List Instr := [.return_]
/-- TimberHouse$FaultRips$Plan.copy(LTimberHouse$FaultRips$Plan;)V -/
def m451 : pm_M := (fun j => [b451_0, b451_1, b451_2].getD j [], fun _ => [], 7, 3)
def b452_0 : List Instr := [.aload 0, .getfield 7171, .iload 3, .aload 1, .getfield 7171, .iload 2, .baload, .bastore, .aload 0, .getfield 7179, .iload 3, .aload 1, .getfield 7179, .iload 2, .baload, .bastore, .aload 0, .getfield 7187, .iload 3, .aload 1, .getfield 7187, .iload 2, .baload, .bastore, .aload 0, .getfield 7195, .iload 3, .aload 1, .getfield 7195, .iload 2, .baload, .bastore, .aload 0, .getfield 7203, .iload 3, .aload 1, .getfield 7203, .iload 2, .baload, .bastore, .return_]
/-- TimberHouse$FaultRips$Plan.move(LTimberHouse$FaultRips$Plan;II)V -/
def m452 : pm_M := (fun j => [b452_0].getD j [], fun _ => [], 7, 4)
def b453_0 : List Instr := [.aload 0, .getfield 7208, .sipush 1, .isub, .istore 2, .goto_w 1]
def b453_1 : List Instr := [.aload 0, .getfield 7203, .iload 2, .baload, .iload 1, .if_icmp .eq 2, .iinc 2 (-1), .goto 1]
def b453_2 : List Instr := [.aload 0, .dup, .getfield 7208, .sipush 1, .isub, .putfield 7208, .iload 2, .istore 3, .goto_w 3]
def b453_3 : List Instr := [.iload 3, .aload 0, .getfield 7208, .if_icmp .ge 4, .aload 0, .aload 0, .iload 3, .sipush 1, .iadd, .iload 3, .invokeinterface 452 4, .iinc 3 1, .goto 3]
def b453_4 : List Instr := [.return_]
/-- TimberHouse$FaultRips$Plan.drop(I)V -/
def m453 : pm_M := (fun j => [b453_0, b453_1, b453_2, b453_3, b453_4].getD j [], fun _ => [], 7, 4)
def b512_0 : List Instr := [.aload 0, .f2i, .aload 0, .sipush 24, .newarray .int, .putfield 8211, .aload 0, .sipush 24, .newarray .int, .putfield 8219, .aload 0, .sipush 6, .newarray .int, .putfield 8235, .aload 0, .sipush 6, .newarray .long, .putfield 8243, .aload 0, .sipush 8, .newarray .long, .putfield 8259, .aload 0, .sipush 8, .newarray .long, .putfield 8267, .aload 0, .sipush 8, .newarray .boolean, .putfield 8283, .aload 0, .sipush 24, .newarray .int, .putfield 8291, .aload 0, .sipush 24, .newarray .int, .putfield 8299, .aload 0, .sipush 25, .sipush 61, .multianewarray 15 2, .putfield 8307, .aload 0, .new 9, .dup, .invokeinterface 576 1, .putfield 8315, .aload 0, .new 9, .dup, .invokeinterface 576 1, .putfield 8323, .aload 0, .sipush 1440, .newarray .int, .putfield 8363, .aload 0, .sipush 1440, .newarray .int, .putfield 8371, .aload 0, .sipush 1440, .newarray .int, .putfield 8379, .aload 0, .sipush 1440, .newarray .int, .putfield 8387, .aload 0, .sipush 1440, .newarray .int, .putfield 8395, .aload 0, .sipush 24, .newarray .int, .putfield 8411, .aload 0, .sipush 24, .newarray .int, .putfield 8419, .aload 0, .sipush 24, .newarray .int, .putfield 8427, .aload 0, .sipush 3, .newarray .int, .putfield 8467, .aload 0, .iload 1, .invokeinterface 513 1, .putfield 8192, .aload 0, .iload 2, .invokeinterface 513 1, .aload 0, .getfield 8192, .iadd, .sipush 1, .isub, .aload 0, .getfield 8192, .idiv, .putfield 8200, .sipush 0, .istore 3, .goto_w 1]
def b512_1 : List Instr := [.iload 3, .aload 0, .getfield 8307, .arraylength, .if_icmp .ge 4, .sipush 0, .istore 4, .goto_w 2]
def b512_2 : List Instr := [.iload 4, .aload 0, .getfield 8307, .iload 3, .aaload, .arraylength, .if_icmp .ge 3, .aload 0, .getfield 8307, .iload 3, .aaload, .iload 4, .new 9, .dup, .invokeinterface 576 1, .aastore, .iinc 4 1, .goto 2]
def b512_3 : List Instr := [.iinc 3 1, .goto 1]
def b512_4 : List Instr := [.return_]
/-- TimberHouse$FingerLengths.<init>(II)V -/
def m512 : pm_M := (fun j => [b512_0, b512_1, b512_2, b512_3, b512_4].getD j [], fun _ => [], 8, 5)
def b513_0 : List Instr := [.sipush 1, .sipush 65536, .iload 0, .invokeinterface 3840 2, .invokeinterface 3841 2, .jsr 0]
/-- TimberHouse$FingerLengths.near(I)I -/
def m513 : pm_M := (fun j => [b513_0].getD j [], fun _ => [], 0, 1)
def b514_0 : List Instr := [.aload 0, .getfield 8224, .sipush 24, .if_icmp .ge 1, .sipush 1, .goto 2]
def b514_1 : List Instr := [.sipush 0, .goto_w 2]
def b514_2 : List Instr := [.invokeinterface 515 1, .iload 1, .sipush 1, .if_icmp .lt 3, .iload 1, .aload 0, .getfield 8192, .idiv, .sipush 60, .if_icmp .gt 3, .iload 2, .i2l, .bipush 0, .bipush 7, .invokeinterface 516 3, .ifCond .eq 3, .sipush 1, .goto 4]
def b514_3 : List Instr := [.sipush 0, .goto_w 4]
def b514_4 : List Instr := [.invokeinterface 517 1, .aload 0, .getfield 8211, .aload 0, .getfield 8224, .iload 1, .aload 0, .getfield 8192, .idiv, .iastore, .aload 0, .getfield 8219, .aload 0, .getfield 8224, .iload 2, .iastore, .aload 0, .sipush 1, .invokeinterface 518 2, .istore 3, .aload 0, .dup, .getfield 8224, .dup_x1, .sipush 1, .iadd, .putfield 8224, .jsr 0]
/-- TimberHouse$FingerLengths.piece(II)I -/
def m514 : pm_M := (fun j => [b514_0, b514_1, b514_2, b514_3, b514_4].getD j [], fun _ => [], 8, 4)
def b515_0 : List Instr := [.iload 0, .ifCond .ne 1, .ret 71, .athrow]
def b515_1 : List Instr := [.return_]
/-- TimberHouse$FingerLengths.can(Z)V -/
def m515 : pm_M := (fun j => [b515_0, b515_1].getD j [], fun _ => [], 0, 1)
def b516_0 : List Instr := [.lload 0, .lload 2, .lcmp, .ifCond .lt 1, .lload 0, .lload 4, .lcmp, .ifCond .gt 1, .sipush 1, .goto 2]
def b516_1 : List Instr := [.sipush 0, .goto_w 2]
def b516_2 : List Instr := [.jsr 2]
/-- TimberHouse$FingerLengths.isIn(JJJ)Z -/
def m516 : pm_M := (fun j => [b516_0, b516_1, b516_2].getD j [], fun _ => [], 0, 6)
def b517_0 : List Instr := [.iload 0, .ifCond .ne 1, .ret 70, .athrow]
def b517_1 : List Instr := [.return_]
/-- TimberHouse$FingerLengths.proper(Z)V -/
def m517 : pm_M := (fun j => [b517_0, b517_1].getD j [], fun _ => [], 0, 1)
def b518_0 : List Instr := [.aload 0, .dup, .getfield 8354, .iload 1, .ifCond .ne 1, .sipush 1, .goto 2]
def b518_1 : List Instr := [.sipush 0, .goto_w 2]
def b518_2 : List Instr := [.iand, .putfield 8354, .iload 1, .jsr 2]
/-- TimberHouse$FingerLengths.told(Z)Z -/
def m518 : pm_M := (fun j => [b518_0, b518_1, b518_2].getD j [], fun _ => [], 8, 2)
def b519_0 : List Instr := [.aload 0, .getfield 8354, .invokeinterface 515 1, .iload 1, .i2l, .bipush 0, .bipush 2, .invokeinterface 516 3, .invokeinterface 520 1, .aload 0, .getfield 8307, .sipush 0, .aaload, .sipush 0, .aaload, .astore 2, .iload 1, .ifCond .ne 1, .aload 2, .getfield 9217, .goto 3]
def b519_1 : List Instr := [.iload 1, .sipush 1, .if_icmp .ne 2, .aload 2, .getfield 9224, .i2l, .goto 3]
def b519_2 : List Instr := [.aload 2, .getfield 9232, .i2l, .goto_w 3]
def b519_3 : List Instr := [.lreturn]
/-- TimberHouse$FingerLengths.worth(I)J -/
def m519 : pm_M := (fun j => [b519_0, b519_1, b519_2, b519_3].getD j [], fun _ => [], 8, 3)
def b520_0 : List Instr := [.iload 0, .ifCond .ne 1, .ret 67, .athrow]
def b520_1 : List Instr := [.return_]
/-- TimberHouse$FingerLengths.there(Z)V -/
def m520 : pm_M := (fun j => [b520_0, b520_1].getD j [], fun _ => [], 0, 1)
def b521_0 : List Instr := [.iload 1, .sipush 1, .if_icmp .lt 1, .iload 1, .aload 0, .getfield 8192, .idiv, .i2l, .bipush 1, .bipush 120, .invokeinterface 516 3, .ifCond .eq 1, .lload 2, .bipush 1, .bipush 100000, .invokeinterface 516 3, .ifCond .eq 1, .sipush 1, .goto 2]
def b521_1 : List Instr := [.sipush 0, .goto_w 2]
def b521_2 : List Instr := [.invokeinterface 517 1, .aload 0, .getfield 8248, .sipush 6, .if_icmp .ne 3, .sipush 0, .jsr 2]
def b521_3 : List Instr := [.aload 0, .getfield 8235, .aload 0, .getfield 8248, .iload 1, .aload 0, .getfield 8192, .idiv, .iastore, .aload 0, .getfield 8243, .aload 0, .dup, .getfield 8248, .dup_x1, .sipush 1, .iadd, .putfield 8248, .lload 2, .lastore, .aload 0, .sipush 1, .invokeinterface 518 2, .jsr 2]
/-- TimberHouse$FingerLengths.want(IJ)Z -/
def m521 : pm_M := (fun j => [b521_0, b521_1, b521_2, b521_3].getD j [], fun _ => [], 8, 4)
def b522_0 : List Instr := [.iload 1, .ifCond .lt 1, .iload 2, .iload 1, .if_icmp .le 1, .sipush 1, .goto 2]
def b522_1 : List Instr := [.sipush 0, .goto_w 2]
def b522_2 : List Instr := [.invokeinterface 517 1, .aload 0, .getfield 8272, .sipush 8, .if_icmp .ne 3, .sipush 0, .jsr 2]
def b522_3 : List Instr := [.aload 0, .getfield 8259, .aload 0, .getfield 8272, .iload 1, .i2l, .lastore, .aload 0, .getfield 8267, .aload 0, .dup, .getfield 8272, .dup_x1, .sipush 1, .iadd, .putfield 8272, .iload 2, .i2l, .lastore, .aload 0, .sipush 1, .invokeinterface 518 2, .jsr 2]
/-- TimberHouse$FingerLengths.bar(II)Z -/
def m522 : pm_M := (fun j => [b522_0, b522_1, b522_2, b522_3].getD j [], fun _ => [], 8, 3)
def b523_0 : List Instr := [.iload 1, .i2l, .bipush 0, .bipush 7, .invokeinterface 516 3, .invokeinterface 517 1, .aload 0, .getfield 8283, .iload 1, .baload, .iload 2, .if_icmp .eq 1, .sipush 1, .goto 2]
def b523_1 : List Instr := [.sipush 0, .goto_w 2]
def b523_2 : List Instr := [.istore 3, .aload 0, .getfield 8283, .iload 1, .iload 2, .bastore, .aload 0, .iload 3, .invokeinterface 518 2, .jsr 2]
/-- TimberHouse$FingerLengths.group(IZ)Z -/
def m523 : pm_M := (fun j => [b523_0, b523_1, b523_2].getD j [], fun _ => [], 8, 4)
def b524_0 : List Instr := [.aload 0, .invokeinterface 525 1, .aload 0, .invokeinterface 526 1, .aload 0, .invokeinterface 531 1, .aload 0, .getfield 8400, .jsr 0]
/-- TimberHouse$FingerLengths.run()I -/
def m524 : pm_M := (fun j => [b524_0].getD j [], fun _ => [], 8, 1)
def b525_0 : List Instr := [.sipush 0, .istore 1, .goto_w 1]
def b525_1 : List Instr := [.iload 1, .aload 0, .getfield 8224, .if_icmp .ge 2, .aload 0, .getfield 8291, .iload 1, .iload 1, .iastore, .iinc 1 1, .goto 1]
def b525_2 : List Instr := [.return_]
/-- TimberHouse$FingerLengths.inTurn()V -/
def m525 : pm_M := (fun j => [b525_0, b525_1, b525_2].getD j [], fun _ => [], 8, 2)
def b526_0 : List Instr := [.aload 0, .getfield 8307, .aload 0, .getfield 8224, .aaload, .sipush 0, .aaload, .bipush 0, .sipush 0, .sipush 0, .invokeinterface 577 4, .aload 0, .getfield 8224, .sipush 1, .isub, .istore 1, .goto_w 1]
def b526_1 : List Instr := [.iload 1, .ifCond .lt 7, .aload 0, .getfield 8211, .aload 0, .getfield 8291, .iload 1, .iaload, .iaload, .istore 2, .aload 0, .getfield 8307, .iload 1, .aaload, .iload 2, .aaload, .aload 0, .getfield 8307, .iload 1, .sipush 1, .iadd, .aaload, .sipush 0, .aaload, .invokeinterface 578 2, .iload 2, .sipush 1, .isub, .istore 3, .goto_w 2]
def b526_2 : List Instr := [.iload 3, .ifCond .lt 6, .aload 0, .iload 1, .iload 3, .invokeinterface 527 3, .aload 0, .getfield 8307, .iload 1, .aaload, .iload 3, .aaload, .aload 0, .getfield 8315, .invokeinterface 578 2, .sipush 0, .istore 4, .goto_w 3]
def b526_3 : List Instr := [.iload 4, .aload 0, .getfield 8248, .if_icmp .ge 5, .aload 0, .iload 4, .iload 1, .iload 3, .invokeinterface 528 4, .ifCond .eq 4, .aload 0, .getfield 8315, .aload 0, .getfield 8307, .iload 1, .aaload, .iload 3, .aaload, .invokeinterface 579 2, .ifCond .eq 4, .aload 0, .getfield 8307, .iload 1, .aaload, .iload 3, .aaload, .aload 0, .getfield 8315, .invokeinterface 578 2, .goto_w 4]
def b526_4 : List Instr := [.iinc 4 1, .goto 3]
def b526_5 : List Instr := [.iinc 3 (-1), .goto 2]
def b526_6 : List Instr := [.iinc 1 (-1), .goto 1]
def b526_7 : List Instr := [.return_]
/-- TimberHouse$FingerLengths.fill()V -/
def m526 : pm_M := (fun j => [b526_0, b526_1, b526_2, b526_3, b526_4, b526_5, b526_6, b526_7].getD j [], fun _ => [], 8, 5)
def b527_0 : List Instr := [.aload 0, .getfield 8307, .iload 1, .aaload, .iload 2, .sipush 1, .iadd, .aaload, .astore 3, .aload 0, .getfield 8315, .aload 3, .getfield 9217, .aload 3, .getfield 9224, .aload 3, .getfield 9232, .sipush 1, .iadd, .invokeinterface 577 4, .return_]
/-- TimberHouse$FingerLengths.waste(II)V -/
def m527 : pm_M := (fun j => [b527_0].getD j [], fun _ => [], 8, 4)
def b528_0 : List Instr := [.aload 0, .iload 1, .iload 2, .iload 3, .invokeinterface 529 4, .istore 4, .iload 4, .ifCond .eq 1, .aload 0, .getfield 8307, .aload 0, .getfield 8328, .aaload, .aload 0, .getfield 8336, .aaload, .astore 5, .aload 0, .getfield 8315, .aload 0, .getfield 8243, .iload 1, .laload, .aload 5, .getfield 9217, .ladd, .aload 0, .getfield 8344, .aload 5, .getfield 9224, .iadd, .aload 5, .getfield 9232, .invokeinterface 577 4, .goto_w 1]
def b528_1 : List Instr := [.iload 4, .jsr 2]
/-- TimberHouse$FingerLengths.begin(III)Z -/
def m528 : pm_M := (fun j => [b528_0, b528_1].getD j [], fun _ => [], 8, 6)
def b529_0 : List Instr := [.aload 0, .iload 2, .putfield 8328, .aload 0, .iload 3, .putfield 8336, .aload 0, .sipush 0, .putfield 8344, .sipush 0, .istore 4, .goto_w 1]
def b529_1 : List Instr := [.iload 4, .aload 0, .getfield 8235, .iload 1, .iaload, .if_icmp .ge 5, .aload 0, .getfield 8211, .aload 0, .getfield 8291, .aload 0, .getfield 8328, .iaload, .iaload, .aload 0, .getfield 8336, .isub, .istore 5, .iload 4, .iload 5, .iadd, .aload 0, .getfield 8235, .iload 1, .iaload, .if_icmp .lt 2, .aload 0, .dup, .getfield 8336, .aload 0, .getfield 8235, .iload 1, .iaload, .iload 4, .isub, .iadd, .putfield 8336, .sipush 1, .jsr 2]
def b529_2 : List Instr := [.iload 4, .iload 5, .iadd, .istore 4, .aload 0, .getfield 8328, .sipush 1, .iadd, .aload 0, .getfield 8224, .if_icmp .eq 3, .aload 0, .iload 4, .aload 0, .getfield 8328, .aload 0, .getfield 8328, .sipush 1, .iadd, .invokeinterface 530 4, .ifCond .ne 4, .goto_w 3]
def b529_3 : List Instr := [.sipush 0, .jsr 2]
def b529_4 : List Instr := [.aload 0, .dup, .getfield 8328, .sipush 1, .iadd, .putfield 8328, .aload 0, .aload 0, .getfield 8200, .putfield 8336, .aload 0, .dup, .getfield 8344, .sipush 1, .iadd, .putfield 8344, .goto 1]
def b529_5 : List Instr := [.sipush 1, .jsr 2]
/-- TimberHouse$FingerLengths.follow(III)Z -/
def m529 : pm_M := (fun j => [b529_0, b529_1, b529_2, b529_3, b529_4, b529_5].getD j [], fun _ => [], 8, 6)
def b530_0 : List Instr := [.aload 0, .getfield 8219, .aload 0, .getfield 8291, .iload 2, .iaload, .iaload, .istore 4, .aload 0, .getfield 8219, .aload 0, .getfield 8291, .iload 3, .iaload, .iaload, .istore 5, .aload 0, .getfield 8211, .aload 0, .getfield 8291, .iload 3, .iaload, .iaload, .aload 0, .getfield 8200, .if_icmp .le 2, .iload 4, .iload 5, .if_icmp .eq 1, .aload 0, .getfield 8283, .iload 4, .baload, .ifCond .ne 2, .aload 0, .getfield 8283, .iload 5, .baload, .ifCond .ne 2, .goto_w 1]
def b530_1 : List Instr := [.sipush 1, .goto 3]
def b530_2 : List Instr := [.sipush 0, .goto_w 3]
def b530_3 : List Instr := [.istore 6, .iload 1, .i2l, .aload 0, .getfield 8192, .i2l, .lmul, .lstore 7, .sipush 0, .istore 9, .goto_w 4]
def b530_4 : List Instr := [.iload 9, .aload 0, .getfield 8272, .if_icmp .ge 8, .iload 6, .lload 7, .aload 0, .getfield 8259, .iload 9, .laload, .lcmp, .ifCond .le 5, .lload 7, .aload 0, .getfield 8267, .iload 9, .laload, .lcmp, .ifCond .lt 6, .goto_w 5]
def b530_5 : List Instr := [.sipush 1, .goto 7]
def b530_6 : List Instr := [.sipush 0, .goto_w 7]
def b530_7 : List Instr := [.iand, .istore 6, .iinc 9 1, .goto 4]
def b530_8 : List Instr := [.iload 6, .jsr 2]
/-- TimberHouse$FingerLengths.mayJoin(III)Z -/
def m530 : pm_M := (fun j => [b530_0, b530_1, b530_2, b530_3, b530_4, b530_5, b530_6, b530_7, b530_8].getD j [], fun _ => [], 8, 10)
def b531_0 : List Instr := [.aload 0, .aload 0, .sipush 0, .dup_x1, .putfield 8432, .putfield 8400, .sipush 0, .istore 1, .sipush 0, .istore 2, .goto_w 1]
def b531_1 : List Instr := [.iload 1, .aload 0, .getfield 8224, .if_icmp .ge 7, .iload 2, .aload 0, .getfield 8211, .aload 0, .getfield 8291, .iload 1, .iaload, .iaload, .if_icmp .ne 2, .iinc 1 1, .sipush 0, .istore 2, .goto 1]
def b531_2 : List Instr := [.sipush 0, .istore 3, .goto_w 3]
def b531_3 : List Instr := [.iload 3, .aload 0, .getfield 8248, .if_icmp .ge 5, .aload 0, .iload 3, .iload 1, .iload 2, .invokeinterface 528 4, .ifCond .eq 4, .aload 0, .getfield 8315, .aload 0, .getfield 8307, .iload 1, .aaload, .iload 2, .aaload, .invokeinterface 580 2, .ifCond .ne 5, .goto_w 4]
def b531_4 : List Instr := [.iinc 3 1, .goto 3]
def b531_5 : List Instr := [.iload 3, .aload 0, .getfield 8248, .if_icmp .ne 6, .iinc 2 1, .goto 1]
def b531_6 : List Instr := [.aload 0, .iload 3, .iload 1, .iload 2, .invokeinterface 532 4, .aload 0, .iload 3, .iload 1, .iload 2, .invokeinterface 529 4, .istore 4, .aload 0, .getfield 8328, .istore 1, .aload 0, .getfield 8336, .istore 2, .goto 1]
def b531_7 : List Instr := [.aload 0, .sipush 1, .putfield 8354, .return_]
/-- TimberHouse$FingerLengths.walk()V -/
def m531 : pm_M := (fun j => [b531_0, b531_1, b531_2, b531_3, b531_4, b531_5, b531_6, b531_7].getD j [], fun _ => [], 8, 5)
def b532_0 : List Instr := [.aload 0, .iload 1, .iload 2, .iload 3, .invokeinterface 529 4, .istore 4, .aload 0, .getfield 8363, .aload 0, .getfield 8400, .iload 1, .iastore, .aload 0, .getfield 8371, .aload 0, .getfield 8400, .iload 2, .iastore, .aload 0, .getfield 8379, .aload 0, .getfield 8400, .iload 3, .iastore, .aload 0, .getfield 8387, .aload 0, .getfield 8400, .aload 0, .getfield 8344, .iastore, .aload 0, .getfield 8395, .aload 0, .getfield 8400, .sipush 0, .iastore, .aload 0, .getfield 8211, .aload 0, .getfield 8291, .iload 2, .iaload, .iaload, .iload 3, .isub, .istore 5, .sipush 0, .istore 6, .goto_w 1]
def b532_1 : List Instr := [.iload 6, .aload 0, .getfield 8344, .if_icmp .ge 2, .aload 0, .getfield 8411, .aload 0, .getfield 8432, .aload 0, .getfield 8400, .iastore, .aload 0, .getfield 8419, .aload 0, .getfield 8432, .iload 5, .iastore, .aload 0, .getfield 8427, .aload 0, .dup, .getfield 8432, .dup_x1, .sipush 1, .iadd, .putfield 8432, .iload 2, .sipush 1, .iadd, .iload 6, .iadd, .iastore, .iload 5, .aload 0, .getfield 8211, .aload 0, .getfield 8291, .iload 2, .sipush 1, .iadd, .iload 6, .iadd, .iaload, .iaload, .aload 0, .getfield 8200, .isub, .iadd, .istore 5, .iinc 6 1, .goto 1]
def b532_2 : List Instr := [.aload 0, .dup, .getfield 8400, .sipush 1, .iadd, .putfield 8400, .return_]
/-- TimberHouse$FingerLengths.make(III)V -/
def m532 : pm_M := (fun j => [b532_0, b532_1, b532_2].getD j [], fun _ => [], 8, 7)
def b533_0 : List Instr := [.iload 1, .i2l, .bipush 0, .bipush 5, .invokeinterface 516 3, .invokeinterface 517 1, .iload 1, .aload 0, .getfield 8224, .invokeinterface 3840 2, .istore 2, .aload 0, .invokeinterface 525 1, .sipush 1, .istore 3, .goto_w 1]
def b533_1 : List Instr := [.aload 0, .invokeinterface 526 1, .iload 3, .ifCond .ne 2, .aload 0, .getfield 8307, .sipush 0, .aaload, .sipush 0, .aaload, .aload 0, .getfield 8323, .invokeinterface 579 2, .ifCond .eq 3, .goto_w 2]
def b533_2 : List Instr := [.aload 0, .getfield 8323, .aload 0, .getfield 8307, .sipush 0, .aaload, .sipush 0, .aaload, .invokeinterface 578 2, .aload 0, .getfield 8291, .sipush 0, .aload 0, .getfield 8299, .sipush 0, .aload 0, .getfield 8224, .monitorenter, .sipush 0, .istore 3, .goto_w 3]
def b533_3 : List Instr := [.aload 0, .iload 2, .invokeinterface 534 2, .ifCond .ne 1, .aload 0, .getfield 8299, .sipush 0, .aload 0, .getfield 8291, .sipush 0, .aload 0, .getfield 8224, .monitorenter, .aload 0, .invokeinterface 526 1, .aload 0, .invokeinterface 531 1, .aload 0, .getfield 8400, .jsr 0]
/-- TimberHouse$FingerLengths.order(I)I -/
def m533 : pm_M := (fun j => [b533_0, b533_1, b533_2, b533_3].getD j [], fun _ => [], 8, 4)
def b534_0 : List Instr := [.iload 1, .sipush 2, .isub, .istore 2, .goto_w 1]
def b534_1 : List Instr := [.iload 2, .ifCond .lt 2, .aload 0, .getfield 8291, .iload 2, .iaload, .aload 0, .getfield 8291, .iload 2, .sipush 1, .iadd, .iaload, .if_icmp .le 2, .iinc 2 (-1), .goto 1]
def b534_2 : List Instr := [.iload 2, .ifCond .ge 3, .sipush 0, .jsr 2]
def b534_3 : List Instr := [.iload 1, .sipush 1, .isub, .istore 3, .goto_w 4]
def b534_4 : List Instr := [.aload 0, .getfield 8291, .iload 3, .iaload, .aload 0, .getfield 8291, .iload 2, .iaload, .if_icmp .ge 5, .iinc 3 (-1), .goto 4]
def b534_5 : List Instr := [.aload 0, .iload 2, .iload 3, .invokeinterface 535 3, .iload 2, .sipush 1, .iadd, .istore 4, .iload 1, .sipush 1, .isub, .istore 5, .goto_w 6]
def b534_6 : List Instr := [.iload 4, .iload 5, .if_icmp .ge 7, .aload 0, .iload 4, .iload 5, .invokeinterface 535 3, .iinc 4 1, .iinc 5 (-1), .goto 6]
def b534_7 : List Instr := [.sipush 1, .jsr 2]
/-- TimberHouse$FingerLengths.next(I)Z -/
def m534 : pm_M := (fun j => [b534_0, b534_1, b534_2, b534_3, b534_4, b534_5, b534_6, b534_7].getD j [], fun _ => [], 8, 6)
def b535_0 : List Instr := [.aload 0, .getfield 8291, .iload 1, .iaload, .istore 3, .aload 0, .getfield 8291, .iload 1, .aload 0, .getfield 8291, .iload 2, .iaload, .iastore, .aload 0, .getfield 8291, .iload 2, .iload 3, .iastore, .return_]
/-- TimberHouse$FingerLengths.swap(II)V -/
def m535 : pm_M := (fun j => [b535_0].getD j [], fun _ => [], 8, 4)
def b536_0 : List Instr := [.aload 0, .getfield 8354, .invokeinterface 515 1, .iload 1, .i2l, .bipush 0, .aload 0, .getfield 8224, .sipush 1, .isub, .i2l, .invokeinterface 516 3, .invokeinterface 520 1, .aload 0, .getfield 8291, .iload 1, .iaload, .jsr 0]
/-- TimberHouse$FingerLengths.taken(I)I -/
def m536 : pm_M := (fun j => [b536_0].getD j [], fun _ => [], 8, 2)
def b537_0 : List Instr := [.aload 0, .iload 1, .invokeinterface 538 2, .iload 2, .i2l, .bipush 0, .bipush 3, .invokeinterface 516 3, .invokeinterface 517 1, .iload 2, .ifCond .ne 1, .aload 0, .getfield 8363, .iload 1, .iaload, .goto 4]
def b537_1 : List Instr := [.iload 2, .sipush 1, .if_icmp .ne 2, .aload 0, .getfield 8371, .iload 1, .iaload, .goto 4]
def b537_2 : List Instr := [.iload 2, .sipush 2, .if_icmp .ne 3, .aload 0, .getfield 8379, .iload 1, .iaload, .goto 4]
def b537_3 : List Instr := [.aload 0, .getfield 8387, .iload 1, .iaload, .goto_w 4]
def b537_4 : List Instr := [.jsr 0]
/-- TimberHouse$FingerLengths.product(II)I -/
def m537 : pm_M := (fun j => [b537_0, b537_1, b537_2, b537_3, b537_4].getD j [], fun _ => [], 8, 3)
def b538_0 : List Instr := [.aload 0, .getfield 8354, .invokeinterface 515 1, .iload 1, .i2l, .bipush 0, .aload 0, .getfield 8400, .sipush 1, .isub, .i2l, .invokeinterface 516 3, .invokeinterface 520 1, .return_]
/-- TimberHouse$FingerLengths.made(I)V -/
def m538 : pm_M := (fun j => [b538_0].getD j [], fun _ => [], 8, 2)
def b539_0 : List Instr := [.aload 0, .getfield 8354, .invokeinterface 515 1, .iload 1, .i2l, .bipush 0, .aload 0, .getfield 8432, .sipush 1, .isub, .i2l, .invokeinterface 516 3, .invokeinterface 520 1, .iload 2, .i2l, .bipush 0, .bipush 2, .invokeinterface 516 3, .invokeinterface 517 1, .iload 2, .ifCond .ne 1, .aload 0, .getfield 8411, .iload 1, .iaload, .goto 3]
def b539_1 : List Instr := [.iload 2, .sipush 1, .if_icmp .ne 2, .aload 0, .getfield 8419, .iload 1, .iaload, .goto 3]
def b539_2 : List Instr := [.aload 0, .getfield 8427, .iload 1, .iaload, .goto_w 3]
def b539_3 : List Instr := [.jsr 0]
/-- TimberHouse$FingerLengths.joint(II)I -/
def m539 : pm_M := (fun j => [b539_0, b539_1, b539_2, b539_3].getD j [], fun _ => [], 8, 3)
def b540_0 : List Instr := [.aload 0, .iload 1, .invokeinterface 538 2, .iload 2, .i2l, .bipush 0, .bipush 1000, .invokeinterface 516 3, .invokeinterface 517 1, .aload 0, .getfield 8395, .iload 1, .iaload, .iload 2, .if_icmp .eq 1, .sipush 1, .goto 2]
def b540_1 : List Instr := [.sipush 0, .goto_w 2]
def b540_2 : List Instr := [.istore 3, .aload 0, .getfield 8395, .iload 1, .iload 2, .iastore, .iload 3, .jsr 2]
/-- TimberHouse$FingerLengths.cure(II)Z -/
def m540 : pm_M := (fun j => [b540_0, b540_1, b540_2].getD j [], fun _ => [], 8, 4)
def b541_0 : List Instr := [.aload 0, .iload 1, .invokeinterface 538 2, .iload 2, .aload 0, .getfield 8395, .iload 1, .iaload, .if_icmp .lt 1, .sipush 1, .goto 2]
def b541_1 : List Instr := [.sipush 0, .goto_w 2]
def b541_2 : List Instr := [.jsr 2]
/-- TimberHouse$FingerLengths.load(II)Z -/
def m541 : pm_M := (fun j => [b541_0, b541_1, b541_2].getD j [], fun _ => [], 8, 3)
def b542_0 : List Instr := [.aload 0, .iload 1, .invokeinterface 538 2, .dload 2, .ldc2_w 0, .dcmp .l, .ifCond .lt 1, .dload 2, .ldc2_w 4652007308841189376, .dcmp .g, .ifCond .gt 1, .sipush 1, .goto 2]
def b542_1 : List Instr := [.sipush 0, .goto_w 2]
def b542_2 : List Instr := [.invokeinterface 517 1, .dload 2, .ldc2_w 4625196817309499392, .dcmp .l, .ifCond .ge 3, .sipush 1, .goto 4]
def b542_3 : List Instr := [.sipush 0, .goto_w 4]
def b542_4 : List Instr := [.istore 4, .aload 0, .dup, .getfield 8440, .iload 4, .ifCond .eq 5, .sipush 1, .goto 6]
def b542_5 : List Instr := [.sipush 0, .goto_w 6]
def b542_6 : List Instr := [.iadd, .putfield 8440, .aload 0, .dup, .getfield 8448, .iload 4, .ifCond .eq 7, .sipush 0, .goto 8]
def b542_7 : List Instr := [.sipush 1, .goto_w 8]
def b542_8 : List Instr := [.iadd, .putfield 8448, .aload 0, .sipush 0, .iload 4, .invokeinterface 543 3, .aload 0, .sipush 1, .iload 4, .ifCond .eq 9, .aload 0, .getfield 8458, .ifCond .eq 9, .sipush 1, .goto 10]
def b542_9 : List Instr := [.sipush 0, .goto_w 10]
def b542_10 : List Instr := [.invokeinterface 543 3, .aload 0, .sipush 2, .aload 0, .getfield 8440, .aload 0, .getfield 8448, .iadd, .sipush 10, .if_icmp .lt 11, .sipush 10, .aload 0, .getfield 8440, .imul, .aload 0, .getfield 8440, .aload 0, .getfield 8448, .iadd, .if_icmp .le 11, .sipush 1, .goto 12]
def b542_11 : List Instr := [.sipush 0, .goto_w 12]
def b542_12 : List Instr := [.invokeinterface 543 3, .aload 0, .iload 4, .putfield 8458, .aload 0, .getfield 8440, .aload 0, .getfield 8448, .iadd, .jsr 0]
/-- TimberHouse$FingerLengths.test(ID)I -/
def m542 : pm_M := (fun j => [b542_0, b542_1, b542_2, b542_3, b542_4, b542_5, b542_6, b542_7, b542_8, b542_9, b542_10, b542_11, b542_12].getD j [], fun _ => [], 8, 5)
def b543_0 : List Instr := [.iload 2, .ifCond .eq 1, .aload 0, .getfield 8467, .iload 1, .iaload, .ifCond .ne 1, .aload 0, .getfield 8467, .iload 1, .aload 0, .getfield 8440, .aload 0, .getfield 8448, .iadd, .iastore, .goto_w 1]
def b543_1 : List Instr := [.return_]
/-- TimberHouse$FingerLengths.stops(IZ)V -/
def m543 : pm_M := (fun j => [b543_0, b543_1].getD j [], fun _ => [], 8, 3)
def b544_0 : List Instr := [.iload 1, .ifCond .eq 1, .iload 1, .sipush 1, .if_icmp .ne 2, .goto_w 1]
def b544_1 : List Instr := [.sipush 1, .goto 3]
def b544_2 : List Instr := [.sipush 0, .goto_w 3]
def b544_3 : List Instr := [.invokeinterface 520 1, .iload 1, .ifCond .ne 4, .aload 0, .getfield 8440, .i2l, .goto 5]
def b544_4 : List Instr := [.aload 0, .getfield 8448, .i2l, .goto_w 5]
def b544_5 : List Instr := [.lreturn]
/-- TimberHouse$FingerLengths.counted(I)J -/
def m544 : pm_M := (fun j => [b544_0, b544_1, b544_2, b544_3, b544_4, b544_5].getD j [], fun _ => [], 8, 2)
def b545_0 : List Instr := [.iload 1, .i2l, .bipush 0, .bipush 2, .invokeinterface 516 3, .invokeinterface 520 1, .aload 0, .getfield 8467, .iload 1, .iaload, .jsr 0]
/-- TimberHouse$FingerLengths.stop(I)I -/
def m545 : pm_M := (fun j => [b545_0].getD j [], fun _ => [], 8, 2)
def b576_0 : List Instr := [.aload 0, .f2i, .return_]
/-- TimberHouse$FingerLengths$Score.<init>()V -/
def m576 : pm_M := (fun j => [b576_0].getD j [], fun _ => [], 9, 1)
def b577_0 : List Instr := [.aload 0, .lload 1, .putfield 9217, .aload 0, .iload 3, .putfield 9224, .aload 0, .iload 4, .putfield 9232, .return_]
/-- TimberHouse$FingerLengths$Score.set(JII)V -/
def m577 : pm_M := (fun j => [b577_0].getD j [], fun _ => [], 9, 5)
def b578_0 : List Instr := [.aload 0, .aload 1, .getfield 9217, .aload 1, .getfield 9224, .aload 1, .getfield 9232, .invokeinterface 577 4, .return_]
/-- TimberHouse$FingerLengths$Score.copy(LTimberHouse$FingerLengths$Score;)V -/
def m578 : pm_M := (fun j => [b578_0].getD j [], fun _ => [], 9, 2)
def b579_0 : List Instr := [.aload 0, .getfield 9217, .aload 1, .getfield 9217, .lcmp, .ifCond .eq 2, .aload 0, .getfield 9217, .aload 1, .getfield 9217, .lcmp, .ifCond .le 1, .sipush 1, .goto 6]
def b579_1 : List Instr := [.sipush 0, .goto 6]
def b579_2 : List Instr := [.aload 0, .getfield 9224, .aload 1, .getfield 9224, .if_icmp .eq 4, .aload 0, .getfield 9224, .aload 1, .getfield 9224, .if_icmp .ge 3, .sipush 1, .goto 6]
def b579_3 : List Instr := [.sipush 0, .goto 6]
def b579_4 : List Instr := [.aload 0, .getfield 9232, .aload 1, .getfield 9232, .if_icmp .ge 5, .sipush 1, .goto 6]
def b579_5 : List Instr := [.sipush 0, .goto_w 6]
def b579_6 : List Instr := [.jsr 2]
/-- TimberHouse$FingerLengths$Score.isBetter(LTimberHouse$FingerLengths$Score;)Z -/
def m579 : pm_M := (fun j => [b579_0, b579_1, b579_2, b579_3, b579_4, b579_5, b579_6].getD j [], fun _ => [], 9, 2)
def b580_0 : List Instr := [.aload 0, .getfield 9217, .aload 1, .getfield 9217, .lcmp, .ifCond .ne 1, .aload 0, .getfield 9224, .aload 1, .getfield 9224, .if_icmp .ne 1, .aload 0, .getfield 9232, .aload 1, .getfield 9232, .if_icmp .ne 1, .sipush 1, .goto 2]
def b580_1 : List Instr := [.sipush 0, .goto_w 2]
def b580_2 : List Instr := [.jsr 2]
/-- TimberHouse$FingerLengths$Score.isSame(LTimberHouse$FingerLengths$Score;)Z -/
def m580 : pm_M := (fun j => [b580_0, b580_1, b580_2].getD j [], fun _ => [], 9, 2)
def b640_0 : List Instr := [.aload 0, .f2i, .aload 0, .new 63, .dup, .invokeinterface 4032 1, .putfield 10251, .aload 0, .new 63, .dup, .invokeinterface 4032 1, .putfield 10259, .aload 0, .new 63, .dup, .invokeinterface 4032 1, .putfield 10267, .aload 0, .sipush 8, .newarray .int, .putfield 10283, .aload 0, .sipush 8, .newarray .int, .putfield 10291, .return_]
/-- TimberHouse$LathePieces.<init>()V -/
def m640 : pm_M := (fun j => [b640_0].getD j [], fun _ => [], 10, 1)
def b641_0 : List Instr := [.aload 0, .iload 1, .invokeinterface 642 2, .astore 5, .aload 0, .iload 2, .invokeinterface 645 2, .astore 6, .iload 3, .sipush 1, .sipush 100, .invokeinterface 643 3, .ifCond .eq 1, .iload 4, .sipush 0, .sipush 50, .invokeinterface 643 3, .ifCond .eq 1, .sipush 1, .goto 2]
def b641_1 : List Instr := [.sipush 0, .goto_w 2]
def b641_2 : List Instr := [.invokeinterface 646 1, .sipush 0, .istore 7, .sipush 0, .istore 8, .goto_w 3]
def b641_3 : List Instr := [.iload 8, .aload 5, .invokeinterface 2752 1, .if_icmp .gt 4, .iload 7, .aload 5, .aload 6, .iload 4, .iload 8, .invokeinterface 647 4, .invokeinterface 3841 2, .istore 7, .iinc 8 1, .goto 3]
def b641_4 : List Instr := [.iload 7, .iload 3, .iadd, .sipush 1, .isub, .iload 3, .idiv, .jsr 0]
/-- TimberHouse$LathePieces.passes(IIII)I -/
def m641 : pm_M := (fun j => [b641_0, b641_1, b641_2, b641_3, b641_4].getD j [], fun _ => [], 10, 9)
def b642_0 : List Instr := [.iload 1, .sipush 0, .aload 0, .getfield 10251, .invokeinterface 4033 1, .sipush 1, .isub, .invokeinterface 643 3, .invokeinterface 644 1, .aload 0, .getfield 10251, .iload 1, .invokeinterface 4034 2, .checkcast 43, .areturn]
/-- TimberHouse$LathePieces.pieceOf(I)LTimberHouse$LathePieces$Piece; -/
def m642 : pm_M := (fun j => [b642_0].getD j [], fun _ => [], 10, 2)
def b643_0 : List Instr := [.iload 0, .iload 1, .if_icmp .lt 1, .iload 0, .iload 2, .if_icmp .gt 1, .sipush 1, .goto 2]
def b643_1 : List Instr := [.sipush 0, .goto_w 2]
def b643_2 : List Instr := [.jsr 2]
/-- TimberHouse$LathePieces.isIn(III)Z -/
def m643 : pm_M := (fun j => [b643_0, b643_1, b643_2].getD j [], fun _ => [], 0, 3)
def b644_0 : List Instr := [.iload 0, .ifCond .ne 1, .ret 67, .athrow]
def b644_1 : List Instr := [.return_]
/-- TimberHouse$LathePieces.inside(Z)V -/
def m644 : pm_M := (fun j => [b644_0, b644_1].getD j [], fun _ => [], 0, 1)
def b645_0 : List Instr := [.iload 1, .sipush 0, .aload 0, .getfield 10259, .invokeinterface 4033 1, .sipush 1, .isub, .invokeinterface 643 3, .invokeinterface 644 1, .aload 0, .getfield 10259, .iload 1, .invokeinterface 4034 2, .checkcast 44, .areturn]
/-- TimberHouse$LathePieces.toolOf(I)LTimberHouse$LathePieces$Tool; -/
def m645 : pm_M := (fun j => [b645_0].getD j [], fun _ => [], 10, 2)
def b646_0 : List Instr := [.iload 0, .ifCond .ne 1, .ret 70, .athrow]
def b646_1 : List Instr := [.return_]
/-- TimberHouse$LathePieces.need(Z)V -/
def m646 : pm_M := (fun j => [b646_0, b646_1].getD j [], fun _ => [], 0, 1)
def b647_0 : List Instr := [.sipush 0, .aload 0, .invokeinterface 2753 1, .aload 1, .aload 0, .iload 3, .invokeinterface 2816 3, .isub, .iload 2, .isub, .invokeinterface 3841 2, .jsr 0]
/-- TimberHouse$LathePieces.deep(LTimberHouse$LathePieces$Piece;LTimberHouse$LathePieces$Tool;II)I -/
def m647 : pm_M := (fun j => [b647_0].getD j [], fun _ => [], 0, 4)
def b648_0 : List Instr := [.iload 1, .sipush 0, .sipush 500, .invokeinterface 643 3, .invokeinterface 646 1, .aload 0, .new 39, .dup, .iload 1, .invokeinterface 2496 2, .putfield 10243, .return_]
/-- TimberHouse$LathePieces.start(I)V -/
def m648 : pm_M := (fun j => [b648_0].getD j [], fun _ => [], 10, 2)
def b649_0 : List Instr := [.aload 0, .iload 1, .iload 2, .sipush 1, .invokeinterface 650 4, .aload 0, .getfield 10243, .new 41, .dup, .aload 0, .getfield 10243, .getfield 39944, .iload 1, .aload 0, .getfield 10243, .getfield 39952, .iload 2, .invokeinterface 2624 5, .iload 2, .invokeinterface 2497 3, .aload 0, .getfield 10243, .getfield 39939, .invokeinterface 4033 1, .jsr 0]
/-- TimberHouse$LathePieces.line(II)I -/
def m649 : pm_M := (fun j => [b649_0].getD j [], fun _ => [], 10, 3)
def b650_0 : List Instr := [.iload 1, .sipush 1, .sipush 64, .invokeinterface 643 3, .ifCond .eq 2, .iload 2, .sipush 0, .sipush 500, .invokeinterface 643 3, .ifCond .eq 2, .iload 3, .ifCond .eq 2, .aload 0, .getfield 10243, .ifnull 1, .iload 1, .aload 0, .getfield 10243, .getfield 39944, .if_icmp .le 2, .goto_w 1]
def b650_1 : List Instr := [.sipush 1, .goto 3]
def b650_2 : List Instr := [.sipush 0, .goto_w 3]
def b650_3 : List Instr := [.invokeinterface 646 1, .aload 0, .getfield 10243, .ifnull 4, .sipush 1, .goto 5]
def b650_4 : List Instr := [.sipush 0, .goto_w 5]
def b650_5 : List Instr := [.invokeinterface 651 1, .return_]
/-- TimberHouse$LathePieces.ends(IIZ)V -/
def m650 : pm_M := (fun j => [b650_0, b650_1, b650_2, b650_3, b650_4, b650_5].getD j [], fun _ => [], 10, 4)
def b651_0 : List Instr := [.iload 0, .ifCond .ne 1, .ret 71, .athrow]
def b651_1 : List Instr := [.return_]
/-- TimberHouse$LathePieces.room(Z)V -/
def m651 : pm_M := (fun j => [b651_0, b651_1].getD j [], fun _ => [], 0, 1)
def b652_0 : List Instr := [.aload 0, .iload 1, .iload 2, .iload 3, .sipush (-200), .sipush 300, .invokeinterface 643 3, .ifCond .eq 1, .iload 4, .sipush (-1000), .sipush 1500, .invokeinterface 643 3, .ifCond .eq 1, .sipush 1, .goto 2]
def b652_1 : List Instr := [.sipush 0, .goto_w 2]
def b652_2 : List Instr := [.invokeinterface 650 4, .aload 0, .getfield 10243, .getfield 39944, .iload 3, .isub, .invokeinterface 653 1, .aload 0, .getfield 10243, .getfield 39952, .iload 4, .isub, .invokeinterface 653 1, .iadd, .istore 6, .iload 5, .ifCond .eq 4, .aload 0, .getfield 10243, .getfield 39952, .iload 4, .if_icmp .lt 3, .iload 2, .iload 4, .if_icmp .lt 3, .sipush 1, .goto 6]
def b652_3 : List Instr := [.sipush 0, .goto 6]
def b652_4 : List Instr := [.aload 0, .getfield 10243, .getfield 39952, .iload 4, .if_icmp .gt 5, .iload 2, .iload 4, .if_icmp .gt 5, .sipush 1, .goto 6]
def b652_5 : List Instr := [.sipush 0, .goto_w 6]
def b652_6 : List Instr := [.istore 7, .iload 7, .ifCond .eq 7, .iload 1, .iload 3, .isub, .invokeinterface 653 1, .iload 2, .iload 4, .isub, .invokeinterface 653 1, .iadd, .iload 6, .if_icmp .eq 8, .goto_w 7]
def b652_7 : List Instr := [.sipush 0, .jsr 2]
def b652_8 : List Instr := [.aload 0, .getfield 10243, .new 42, .dup, .aload 0, .getfield 10243, .getfield 39944, .iload 1, .iload 3, .iload 4, .iload 6, .iload 5, .invokeinterface 2688 7, .iload 2, .invokeinterface 2497 3, .sipush 1, .jsr 2]
/-- TimberHouse$LathePieces.arc(IIIIZ)Z -/
def m652 : pm_M := (fun j => [b652_0, b652_1, b652_2, b652_3, b652_4, b652_5, b652_6, b652_7, b652_8].getD j [], fun _ => [], 10, 8)
def b653_0 : List Instr := [.iload 0, .iload 0, .imul, .jsr 0]
/-- TimberHouse$LathePieces.square(I)I -/
def m653 : pm_M := (fun j => [b653_0].getD j [], fun _ => [], 0, 1)
def b654_0 : List Instr := [.aload 0, .getfield 10251, .invokeinterface 4033 1, .sipush 6, .if_icmp .ge 1, .aload 0, .getfield 10243, .ifnull 1, .aload 0, .getfield 10243, .getfield 39939, .invokeinterface 4040 1, .ifCond .ne 1, .sipush 1, .goto 2]
def b654_1 : List Instr := [.sipush 0, .goto_w 2]
def b654_2 : List Instr := [.invokeinterface 651 1, .aload 0, .getfield 10251, .new 43, .dup, .aload 0, .getfield 10243, .invokeinterface 2754 2, .invokeinterface 4036 2, .pop, .aload 0, .getfield 10251, .invokeinterface 4033 1, .sipush 1, .isub, .jsr 0]
/-- TimberHouse$LathePieces.turn()I -/
def m654 : pm_M := (fun j => [b654_0, b654_1, b654_2].getD j [], fun _ => [], 10, 1)
def b655_0 : List Instr := [.sipush 0, .istore 1, .sipush 4096, .istore 2, .goto_w 1]
def b655_1 : List Instr := [.iload 2, .ifCond .le 3, .iload 1, .iload 2, .iadd, .invokeinterface 653 1, .iload 0, .if_icmp .gt 2, .iload 1, .iload 2, .iadd, .istore 1, .goto_w 2]
def b655_2 : List Instr := [.iload 2, .sipush 1, .ishr, .istore 2, .goto 1]
def b655_3 : List Instr := [.iload 1, .jsr 0]
/-- TimberHouse$LathePieces.root(I)I -/
def m655 : pm_M := (fun j => [b655_0, b655_1, b655_2, b655_3].getD j [], fun _ => [], 0, 3)
def b656_0 : List Instr := [.aload 0, .iload 1, .invokeinterface 642 2, .astore 3, .iload 2, .sipush 0, .aload 3, .invokeinterface 2752 1, .invokeinterface 643 3, .invokeinterface 644 1, .aload 3, .getfield 44035, .iload 2, .iaload, .jsr 0]
/-- TimberHouse$LathePieces.radius(II)I -/
def m656 : pm_M := (fun j => [b656_0].getD j [], fun _ => [], 10, 4)
def b657_0 : List Instr := [.aload 0, .iload 1, .invokeinterface 642 2, .astore 3, .iload 2, .sipush 0, .sipush 2, .invokeinterface 643 3, .invokeinterface 644 1, .iload 2, .ifCond .ne 1, .aload 3, .invokeinterface 2752 1, .goto 3]
def b657_1 : List Instr := [.iload 2, .sipush 1, .if_icmp .ne 2, .aload 3, .invokeinterface 2753 1, .goto 3]
def b657_2 : List Instr := [.aload 3, .getfield 44040, .goto_w 3]
def b657_3 : List Instr := [.jsr 0]
/-- TimberHouse$LathePieces.about(II)I -/
def m657 : pm_M := (fun j => [b657_0, b657_1, b657_2, b657_3].getD j [], fun _ => [], 10, 4)
def b658_0 : List Instr := [.iload 1, .sipush 0, .sipush 12, .invokeinterface 643 3, .invokeinterface 646 1, .aload 0, .getfield 10259, .invokeinterface 4033 1, .sipush 6, .if_icmp .ge 1, .sipush 1, .goto 2]
def b658_1 : List Instr := [.sipush 0, .goto_w 2]
def b658_2 : List Instr := [.invokeinterface 651 1, .aload 0, .getfield 10259, .new 44, .dup, .iload 1, .invokeinterface 2821 2, .invokeinterface 4036 2, .pop, .aload 0, .getfield 10259, .invokeinterface 4033 1, .sipush 1, .isub, .jsr 0]
/-- TimberHouse$LathePieces.tool(I)I -/
def m658 : pm_M := (fun j => [b658_0, b658_1, b658_2].getD j [], fun _ => [], 10, 2)
def b659_0 : List Instr := [.aload 0, .iload 1, .invokeinterface 642 2, .astore 4, .aload 0, .iload 2, .invokeinterface 645 2, .astore 5, .iload 3, .sipush 0, .aload 4, .invokeinterface 2752 1, .invokeinterface 643 3, .invokeinterface 644 1, .aload 5, .aload 4, .iload 3, .invokeinterface 2816 3, .jsr 0]
/-- TimberHouse$LathePieces.reached(III)I -/
def m659 : pm_M := (fun j => [b659_0].getD j [], fun _ => [], 10, 6)
def b660_0 : List Instr := [.aload 0, .iload 1, .invokeinterface 642 2, .astore 3, .aload 0, .iload 2, .invokeinterface 645 2, .astore 4, .sipush 0, .istore 5, .sipush 0, .istore 6, .goto_w 1]
def b660_1 : List Instr := [.iload 6, .aload 3, .invokeinterface 2752 1, .if_icmp .gt 4, .iload 5, .aload 4, .aload 3, .iload 6, .invokeinterface 2816 3, .aload 3, .getfield 44035, .iload 6, .iaload, .if_icmp .le 2, .sipush 1, .goto 3]
def b660_2 : List Instr := [.sipush 0, .goto_w 3]
def b660_3 : List Instr := [.iadd, .istore 5, .iinc 6 1, .goto 1]
def b660_4 : List Instr := [.iload 5, .jsr 0]
/-- TimberHouse$LathePieces.left(II)I -/
def m660 : pm_M := (fun j => [b660_0, b660_1, b660_2, b660_3, b660_4].getD j [], fun _ => [], 10, 7)
def b661_0 : List Instr := [.aload 0, .iload 1, .invokeinterface 642 2, .astore 6, .aload 0, .iload 2, .invokeinterface 645 2, .astore 7, .iload 3, .sipush 1, .sipush 100, .invokeinterface 643 3, .ifCond .eq 1, .iload 4, .sipush 0, .sipush 50, .invokeinterface 643 3, .ifCond .eq 1, .iload 5, .sipush 1, .if_icmp .lt 1, .sipush 1, .goto 2]
def b661_1 : List Instr := [.sipush 0, .goto_w 2]
def b661_2 : List Instr := [.invokeinterface 646 1, .sipush 0, .istore 8, .sipush 0, .istore 9, .goto_w 3]
def b661_3 : List Instr := [.iload 9, .aload 6, .invokeinterface 2752 1, .if_icmp .gt 6, .iload 8, .aload 6, .aload 7, .iload 4, .iload 9, .invokeinterface 647 4, .i2l, .iload 5, .i2l, .bipush 1, .lsub, .iload 3, .i2l, .lmul, .lcmp, .ifCond .le 4, .sipush 1, .goto 5]
def b661_4 : List Instr := [.sipush 0, .goto_w 5]
def b661_5 : List Instr := [.iadd, .istore 8, .iinc 9 1, .goto 3]
def b661_6 : List Instr := [.iload 8, .jsr 0]
/-- TimberHouse$LathePieces.cut(IIIII)I -/
def m661 : pm_M := (fun j => [b661_0, b661_1, b661_2, b661_3, b661_4, b661_5, b661_6].getD j [], fun _ => [], 10, 10)
def b662_0 : List Instr := [.aload 0, .iload 1, .invokeinterface 642 2, .astore 4, .iload 2, .sipush 1, .sipush 500, .invokeinterface 643 3, .ifCond .eq 1, .iload 3, .ifCond .lt 1, .sipush 1, .goto 2]
def b662_1 : List Instr := [.sipush 0, .goto_w 2]
def b662_2 : List Instr := [.invokeinterface 646 1, .aload 4, .sipush 0, .iload 2, .invokeinterface 2755 3, .istore 5, .sipush 0, .istore 6, .goto_w 3]
def b662_3 : List Instr := [.iload 6, .iload 3, .if_icmp .ge 4, .iload 5, .aload 4, .invokeinterface 2752 1, .if_icmp .ge 4, .aload 4, .iload 5, .iload 2, .invokeinterface 2755 3, .istore 5, .iinc 6 1, .goto 3]
def b662_4 : List Instr := [.iload 5, .aload 4, .invokeinterface 2752 1, .if_icmp .ge 5, .sipush 1, .goto 6]
def b662_5 : List Instr := [.sipush 0, .goto_w 6]
def b662_6 : List Instr := [.invokeinterface 651 1, .iload 5, .jsr 0]
/-- TimberHouse$LathePieces.steady(III)I -/
def m662 : pm_M := (fun j => [b662_0, b662_1, b662_2, b662_3, b662_4, b662_5, b662_6].getD j [], fun _ => [], 10, 7)
def b663_0 : List Instr := [.aload 0, .iload 1, .invokeinterface 642 2, .astore 3, .iload 2, .ifCond .eq 1, .aload 3, .sipush 1, .invokeinterface 2756 2, .bipush 314160, .lmul, .bipush 100000, .ldiv, .bipush 1, .ladd, .goto 2]
def b663_1 : List Instr := [.aload 3, .sipush 0, .invokeinterface 2756 2, .bipush 314159, .lmul, .bipush 100000, .ldiv, .goto_w 2]
def b663_2 : List Instr := [.lreturn]
/-- TimberHouse$LathePieces.volume(IZ)J -/
def m663 : pm_M := (fun j => [b663_0, b663_1, b663_2].getD j [], fun _ => [], 10, 4)
def b664_0 : List Instr := [.aload 0, .iload 1, .invokeinterface 642 2, .astore 4, .iload 2, .sipush 1, .sipush 100, .invokeinterface 643 3, .ifCond .eq 1, .iload 3, .sipush 0, .sipush 100, .invokeinterface 643 3, .ifCond .eq 1, .sipush 1, .goto 2]
def b664_1 : List Instr := [.sipush 0, .goto_w 2]
def b664_2 : List Instr := [.invokeinterface 646 1, .aload 4, .invokeinterface 2752 1, .istore 5, .goto_w 3]
def b664_3 : List Instr := [.iload 5, .ifCond .lt 4, .aload 4, .getfield 44035, .iload 5, .iaload, .iload 2, .isub, .iload 3, .if_icmp .lt 4, .iinc 5 (-1), .goto 3]
def b664_4 : List Instr := [.aload 4, .invokeinterface 2752 1, .iload 5, .isub, .jsr 0]
/-- TimberHouse$LathePieces.hollow(III)I -/
def m664 : pm_M := (fun j => [b664_0, b664_1, b664_2, b664_3, b664_4].getD j [], fun _ => [], 10, 6)
def b665_0 : List Instr := [.aload 0, .iload 1, .invokeinterface 642 2, .astore 3, .aload 0, .iload 2, .invokeinterface 642 2, .astore 4, .sipush 0, .istore 5, .sipush 0, .istore 6, .goto_w 1]
def b665_1 : List Instr := [.iload 6, .aload 3, .invokeinterface 2752 1, .if_icmp .gt 2, .iload 6, .aload 4, .invokeinterface 2752 1, .if_icmp .gt 2, .iload 5, .aload 3, .getfield 44035, .iload 6, .iaload, .aload 4, .getfield 44035, .iload 6, .iaload, .isub, .invokeinterface 3844 1, .invokeinterface 3841 2, .istore 5, .iinc 6 1, .goto 1]
def b665_2 : List Instr := [.iload 5, .jsr 0]
/-- TimberHouse$LathePieces.copy(II)I -/
def m665 : pm_M := (fun j => [b665_0, b665_1, b665_2].getD j [], fun _ => [], 10, 7)
def b666_0 : List Instr := [.aload 0, .getfield 10267, .invokeinterface 4033 1, .sipush 6, .if_icmp .ge 1, .sipush 1, .goto 2]
def b666_1 : List Instr := [.sipush 0, .goto_w 2]
def b666_2 : List Instr := [.invokeinterface 651 1, .aload 0, .getfield 10267, .new 63, .dup, .invokeinterface 4032 1, .invokeinterface 4036 2, .pop, .aload 0, .getfield 10267, .invokeinterface 4033 1, .sipush 1, .isub, .jsr 0]
/-- TimberHouse$LathePieces.ring()I -/
def m666 : pm_M := (fun j => [b666_0, b666_1, b666_2].getD j [], fun _ => [], 10, 1)
def b667_0 : List Instr := [.aload 0, .iload 1, .invokeinterface 668 2, .astore 4, .iload 2, .sipush 1, .sipush 3600, .invokeinterface 643 3, .ifCond .eq 1, .iload 3, .sipush 1, .sipush 12, .invokeinterface 643 3, .ifCond .eq 1, .sipush 1, .goto 2]
def b667_1 : List Instr := [.sipush 0, .goto_w 2]
def b667_2 : List Instr := [.invokeinterface 646 1, .aload 4, .invokeinterface 4033 1, .sipush 16, .if_icmp .ge 3, .sipush 1, .goto 4]
def b667_3 : List Instr := [.sipush 0, .goto_w 4]
def b667_4 : List Instr := [.invokeinterface 651 1, .aload 4, .new 45, .dup, .iload 2, .i2l, .iload 3, .i2l, .invokeinterface 2880 3, .invokeinterface 4036 2, .pop, .aload 4, .invokeinterface 4033 1, .jsr 0]
/-- TimberHouse$LathePieces.wedge(III)I -/
def m667 : pm_M := (fun j => [b667_0, b667_1, b667_2, b667_3, b667_4].getD j [], fun _ => [], 10, 5)
def b668_0 : List Instr := [.iload 1, .sipush 0, .aload 0, .getfield 10267, .invokeinterface 4033 1, .sipush 1, .isub, .invokeinterface 643 3, .invokeinterface 644 1, .aload 0, .getfield 10267, .iload 1, .invokeinterface 4034 2, .checkcast 63, .areturn]
/-- TimberHouse$LathePieces.ringOf(I)Ljava/util/ArrayList; -/
def m668 : pm_M := (fun j => [b668_0].getD j [], fun _ => [], 10, 2)
def b669_0 : List Instr := [.aload 0, .iload 1, .invokeinterface 668 2, .astore 4, .iload 2, .sipush 0, .aload 4, .invokeinterface 4033 1, .sipush 1, .isub, .invokeinterface 643 3, .ifCond .eq 1, .iload 3, .sipush 0, .sipush 1, .invokeinterface 643 3, .ifCond .eq 1, .sipush 1, .goto 2]
def b669_1 : List Instr := [.sipush 0, .goto_w 2]
def b669_2 : List Instr := [.invokeinterface 644 1, .aload 4, .iload 2, .invokeinterface 4034 2, .checkcast 45, .invokeinterface 2882 1, .iload 3, .invokeinterface 2883 2, .lreturn]
/-- TimberHouse$LathePieces.mitre(III)J -/
def m669 : pm_M := (fun j => [b669_0, b669_1, b669_2].getD j [], fun _ => [], 10, 5)
def b670_0 : List Instr := [.aload 0, .iload 1, .invokeinterface 671 2, .astore 3, .iload 2, .sipush 0, .sipush 1, .invokeinterface 643 3, .invokeinterface 644 1, .aload 3, .iload 2, .invokeinterface 2883 2, .lreturn]
/-- TimberHouse$LathePieces.gap(II)J -/
def m670 : pm_M := (fun j => [b670_0].getD j [], fun _ => [], 10, 4)
def b671_0 : List Instr := [.new 45, .dup, .bipush 360, .bipush 1, .invokeinterface 2880 3, .astore 2, .aload 0, .iload 1, .invokeinterface 668 2, .astore 3, .sipush 0, .istore 4, .goto_w 1]
def b671_1 : List Instr := [.iload 4, .aload 3, .invokeinterface 4033 1, .if_icmp .ge 2, .aload 2, .aload 3, .iload 4, .invokeinterface 4034 2, .checkcast 45, .invokeinterface 2884 2, .astore 2, .iinc 4 1, .goto 1]
def b671_2 : List Instr := [.aload 2, .areturn]
/-- TimberHouse$LathePieces.gapOf(I)LTimberHouse$LathePieces$Fraction; -/
def m671 : pm_M := (fun j => [b671_0, b671_1, b671_2].getD j [], fun _ => [], 10, 5)
def b672_0 : List Instr := [.aload 0, .iload 1, .invokeinterface 671 2, .getfield 46081, .bipush 0, .lcmp, .ifCond .ne 1, .sipush 1, .goto 2]
def b672_1 : List Instr := [.sipush 0, .goto_w 2]
def b672_2 : List Instr := [.jsr 2]
/-- TimberHouse$LathePieces.closes(I)Z -/
def m672 : pm_M := (fun j => [b672_0, b672_1, b672_2].getD j [], fun _ => [], 10, 2)
def b673_0 : List Instr := [.iload 3, .sipush 0, .sipush 1, .invokeinterface 643 3, .invokeinterface 644 1, .iload 1, .sipush 1, .sipush 1000, .invokeinterface 643 3, .ifCond .eq 1, .iload 2, .sipush 0, .iload 1, .sipush 1, .isub, .invokeinterface 643 3, .ifCond .eq 1, .sipush 1, .goto 2]
def b673_1 : List Instr := [.sipush 0, .goto_w 2]
def b673_2 : List Instr := [.invokeinterface 646 1, .new 45, .dup, .bipush 360, .iload 2, .i2l, .lmul, .iload 1, .i2l, .invokeinterface 2880 3, .iload 3, .invokeinterface 2883 2, .lreturn]
/-- TimberHouse$LathePieces.flute(III)J -/
def m673 : pm_M := (fun j => [b673_0, b673_1, b673_2].getD j [], fun _ => [], 10, 4)
def b674_0 : List Instr := [.iload 1, .sipush 1, .sipush 1000, .invokeinterface 643 3, .ifCond .eq 1, .iload 2, .sipush 1, .sipush 1000, .invokeinterface 643 3, .ifCond .eq 1, .sipush 1, .goto 2]
def b674_1 : List Instr := [.sipush 0, .goto_w 2]
def b674_2 : List Instr := [.invokeinterface 646 1, .aload 0, .new 45, .dup, .iload 1, .i2l, .iload 2, .i2l, .invokeinterface 2880 3, .putfield 10275, .return_]
/-- TimberHouse$LathePieces.thread(II)V -/
def m674 : pm_M := (fun j => [b674_0, b674_1, b674_2].getD j [], fun _ => [], 10, 3)
def b675_0 : List Instr := [.iload 2, .sipush 0, .sipush 1, .invokeinterface 643 3, .invokeinterface 644 1, .iload 1, .sipush 0, .sipush 100000, .invokeinterface 643 3, .invokeinterface 646 1, .aload 0, .getfield 10275, .ifnull 1, .sipush 1, .goto 2]
def b675_1 : List Instr := [.sipush 0, .goto_w 2]
def b675_2 : List Instr := [.invokeinterface 651 1, .new 45, .dup, .iload 1, .i2l, .aload 0, .getfield 10275, .getfield 46081, .lmul, .aload 0, .getfield 10275, .getfield 46089, .invokeinterface 2880 3, .iload 2, .invokeinterface 2883 2, .lreturn]
/-- TimberHouse$LathePieces.threadAt(II)J -/
def m675 : pm_M := (fun j => [b675_0, b675_1, b675_2].getD j [], fun _ => [], 10, 3)
def b676_0 : List Instr := [.iload 1, .sipush 1, .sipush 500, .invokeinterface 643 3, .ifCond .eq 2, .aload 0, .getfield 10296, .ifCond .eq 1, .iload 1, .aload 0, .getfield 10283, .aload 0, .getfield 10296, .sipush 1, .isub, .iaload, .if_icmp .le 2, .goto_w 1]
def b676_1 : List Instr := [.iload 2, .sipush 1, .sipush 10000, .invokeinterface 643 3, .ifCond .eq 2, .sipush 1, .goto 3]
def b676_2 : List Instr := [.sipush 0, .goto_w 3]
def b676_3 : List Instr := [.invokeinterface 646 1, .aload 0, .getfield 10296, .sipush 8, .if_icmp .ge 4, .sipush 1, .goto 5]
def b676_4 : List Instr := [.sipush 0, .goto_w 5]
def b676_5 : List Instr := [.invokeinterface 651 1, .aload 0, .getfield 10283, .aload 0, .getfield 10296, .iload 1, .iastore, .aload 0, .getfield 10291, .aload 0, .getfield 10296, .iload 2, .iastore, .aload 0, .dup, .getfield 10296, .sipush 1, .iadd, .dup_x1, .putfield 10296, .jsr 0]
/-- TimberHouse$LathePieces.row(II)I -/
def m676 : pm_M := (fun j => [b676_0, b676_1, b676_2, b676_3, b676_4, b676_5].getD j [], fun _ => [], 10, 3)
def b677_0 : List Instr := [.aload 0, .iload 1, .iload 2, .invokeinterface 656 3, .istore 3, .aload 0, .getfield 10296, .ifCond .le 1, .sipush 1, .goto 2]
def b677_1 : List Instr := [.sipush 0, .goto_w 2]
def b677_2 : List Instr := [.invokeinterface 651 1, .sipush 0, .istore 4, .goto_w 3]
def b677_3 : List Instr := [.iload 4, .aload 0, .getfield 10296, .sipush 1, .isub, .if_icmp .ge 4, .aload 0, .getfield 10283, .iload 4, .iaload, .iload 3, .if_icmp .ge 4, .iinc 4 1, .goto 3]
def b677_4 : List Instr := [.aload 0, .getfield 10291, .iload 4, .iaload, .jsr 0]
/-- TimberHouse$LathePieces.speed(II)I -/
def m677 : pm_M := (fun j => [b677_0, b677_1, b677_2, b677_3, b677_4].getD j [], fun _ => [], 10, 5)
def b704_0 : List Instr := [.aload 0, .f2i, .aload 0, .sipush 7, .anewarray 12, .dup, .sipush 0, .sipush 4, .newarray .char, .dup, .sipush 0, .sipush 115, .castore, .dup, .sipush 1, .sipush 105, .castore, .dup, .sipush 2, .sipush 122, .castore, .dup, .sipush 3, .sipush 101, .castore, .aastore, .dup, .sipush 1, .sipush 5, .newarray .char, .dup, .sipush 0, .sipush 102, .castore, .dup, .sipush 1, .sipush 111, .castore, .dup, .sipush 2, .sipush 114, .castore, .dup, .sipush 3, .sipush 99, .castore, .dup, .sipush 4, .sipush 101, .castore, .aastore, .dup, .sipush 2, .sipush 4, .newarray .char, .dup, .sipush 0, .sipush 101, .castore, .dup, .sipush 1, .sipush 100, .castore, .dup, .sipush 2, .sipush 103, .castore, .dup, .sipush 3, .sipush 101, .castore, .aastore, .dup, .sipush 3, .sipush 3, .newarray .char, .dup, .sipush 0, .sipush 101, .castore, .dup, .sipush 1, .sipush 110, .castore, .dup, .sipush 2, .sipush 100, .castore, .aastore, .dup, .sipush 4, .sipush 4, .newarray .char, .dup, .sipush 0, .sipush 115, .castore, .dup, .sipush 1, .sipush 105, .castore, .dup, .sipush 2, .sipush 100, .castore, .dup, .sipush 3, .sipush 101, .castore, .aastore, .dup, .sipush 5, .sipush 3, .newarray .char, .dup, .sipush 0, .sipush 114, .castore, .dup, .sipush 1, .sipush 111, .castore, .dup, .sipush 2, .sipush 119, .castore, .aastore, .dup, .sipush 6, .sipush 4, .newarray .char, .dup, .sipush 0, .sipush 116, .castore, .dup, .sipush 1, .sipush 104, .castore, .dup, .sipush 2, .sipush 105, .castore, .dup, .sipush 3, .sipush 110, .castore, .aastore, .putfield 11267, .aload 0, .sipush 200, .newarray .byte, .putfield 11275, .aload 0, .sipush 4, .anewarray 13, .putfield 11307, .aload 0, .sipush 2, .newarray .int, .dup, .sipush 0, .sipush 100, .iastore, .dup, .sipush 1, .sipush 2, .iastore, .putfield 11315, .aload 0, .sipush (-1), .putfield 11320, .aload 0, .sipush 4, .newarray .int, .putfield 11347, .aload 0, .sipush 32, .sipush 2, .multianewarray 7 2, .putfield 11355, .aload 0, .sipush 6, .anewarray 14, .putfield 11371, .sipush 0, .istore 1, .goto_w 1]
def b704_1 : List Instr := [.iload 1, .sipush 4, .if_icmp .ge 2, .aload 0, .getfield 11307, .iload 1, .new 12, .dup, .invokeinterface 768 1, .aastore, .iinc 1 1, .goto 1]
def b704_2 : List Instr := [.return_]
/-- TimberHouse$NailRules.<init>()V -/
def m704 : pm_M := (fun j => [b704_0, b704_1, b704_2].getD j [], fun _ => [], 11, 2)
def b705_0 : List Instr := [.iload 1, .i2l, .bipush 32, .bipush 126, .invokeinterface 706 3, .ifCond .eq 1, .aload 0, .getfield 11280, .sipush 200, .if_icmp .ne 2, .goto_w 1]
def b705_1 : List Instr := [.sipush 0, .jsr 2]
def b705_2 : List Instr := [.aload 0, .getfield 11275, .aload 0, .dup, .getfield 11280, .dup_x1, .sipush 1, .iadd, .putfield 11280, .iload 1, .i2b, .bastore, .sipush 1, .jsr 2]
/-- TimberHouse$NailRules.unit(I)Z -/
def m705 : pm_M := (fun j => [b705_0, b705_1, b705_2].getD j [], fun _ => [], 11, 2)
def b706_0 : List Instr := [.lload 0, .lload 2, .lcmp, .ifCond .lt 1, .lload 0, .lload 4, .lcmp, .ifCond .gt 1, .sipush 1, .goto 2]
def b706_1 : List Instr := [.sipush 0, .goto_w 2]
def b706_2 : List Instr := [.jsr 2]
/-- TimberHouse$NailRules.isIn(JJJ)Z -/
def m706 : pm_M := (fun j => [b706_0, b706_1, b706_2].getD j [], fun _ => [], 0, 6)
def b707_0 : List Instr := [.sipush 16, .newarray .int, .astore 1, .sipush 16, .newarray .int, .astore 2, .sipush 16, .newarray .int, .astore 3, .sipush 0, .istore 4, .aload 0, .sipush 0, .putfield 11288, .goto_w 1]
def b707_1 : List Instr := [.aload 1, .iload 4, .aload 0, .invokeinterface 708 1, .iastore, .aload 0, .sipush 32, .invokeinterface 711 2, .aload 2, .iload 4, .aload 0, .invokeinterface 712 1, .iastore, .aload 0, .sipush 32, .invokeinterface 711 2, .aload 3, .iload 4, .aload 0, .invokeinterface 713 1, .iastore, .iinc 4 1, .aload 0, .getfield 11288, .aload 0, .getfield 11280, .if_icmp .ge 2, .sipush 1, .goto 3]
def b707_2 : List Instr := [.sipush 0, .goto_w 3]
def b707_3 : List Instr := [.istore 5, .iload 5, .ifCond .eq 5, .iload 4, .sipush 16, .if_icmp .ne 4, .aload 0, .aload 0, .getfield 11288, .invokeinterface 710 2, .athrow]
def b707_4 : List Instr := [.aload 0, .sipush 59, .invokeinterface 711 2, .goto_w 5]
def b707_5 : List Instr := [.iload 5, .ifCond .ne 1, .goto_w 6]
def b707_6 : List Instr := [.goto 8]
def b707_7 : List Instr := [.aload 0, .sipush 0, .putfield 11280, .sipush (-1), .aload 0, .getfield 11296, .isub, .jsr 0]
def b707_8 : List Instr := [.aload 0, .sipush 0, .putfield 11280, .sipush 0, .istore 5, .goto_w 9]
def b707_9 : List Instr := [.iload 5, .iload 4, .if_icmp .ge 10, .aload 0, .getfield 11307, .aload 1, .iload 5, .iaload, .aaload, .getfield 12291, .aload 2, .iload 5, .iaload, .aload 3, .iload 5, .iaload, .iastore, .iinc 5 1, .goto 9]
def b707_10 : List Instr := [.iload 4, .jsr 0]
/-- TimberHouse$NailRules.read()I -/
def m707 : pm_M := (fun j => [b707_0, b707_1, b707_2, b707_3, b707_4, b707_5, b707_6, b707_7, b707_8, b707_9, b707_10].getD j [], fun j => [[], [([71], 7, 5)], [([71], 7, 5)], [([71], 7, 5)], [([71], 7, 5)], [([71], 7, 5)], [], [], [], [], []].getD j [], 11, 6)
def b708_0 : List Instr := [.sipush 0, .istore 1, .goto_w 1]
def b708_1 : List Instr := [.iload 1, .sipush 4, .if_icmp .ge 3, .aload 0, .invokeinterface 709 1, .getstatic 1, .iload 1, .caload, .if_icmp .ne 2, .aload 0, .dup, .getfield 11288, .sipush 1, .iadd, .putfield 11288, .iload 1, .jsr 0]
def b708_2 : List Instr := [.iinc 1 1, .goto 1]
def b708_3 : List Instr := [.aload 0, .aload 0, .getfield 11288, .invokeinterface 710 2, .athrow]
/-- TimberHouse$NailRules.letter()I -/
def m708 : pm_M := (fun j => [b708_0, b708_1, b708_2, b708_3].getD j [], fun _ => [], 11, 2)
def b709_0 : List Instr := [.aload 0, .getfield 11288, .aload 0, .getfield 11280, .if_icmp .ge 1, .aload 0, .getfield 11275, .aload 0, .getfield 11288, .baload, .i2c, .goto 2]
def b709_1 : List Instr := [.sipush 0, .goto_w 2]
def b709_2 : List Instr := [.jsr 4]
/-- TimberHouse$NailRules.look()C -/
def m709 : pm_M := (fun j => [b709_0, b709_1, b709_2].getD j [], fun _ => [], 11, 1)
def b710_0 : List Instr := [.aload 0, .iload 1, .putfield 11296, .ret 71, .areturn]
/-- TimberHouse$NailRules.wrong(I)Ljava/lang/IllegalStateException; -/
def m710 : pm_M := (fun j => [b710_0].getD j [], fun _ => [], 11, 2)
def b711_0 : List Instr := [.aload 0, .invokeinterface 709 1, .iload 1, .if_icmp .eq 1, .aload 0, .aload 0, .getfield 11288, .invokeinterface 710 2, .athrow]
def b711_1 : List Instr := [.aload 0, .dup, .getfield 11288, .sipush 1, .iadd, .putfield 11288, .return_]
/-- TimberHouse$NailRules.take(C)V -/
def m711 : pm_M := (fun j => [b711_0, b711_1].getD j [], fun _ => [], 11, 2)
def b712_0 : List Instr := [.aload 0, .getfield 11288, .istore 1, .aload 0, .getfield 11288, .istore 2, .sipush 0, .istore 3, .goto_w 1]
def b712_1 : List Instr := [.iload 3, .aload 0, .getfield 11267, .arraylength, .if_icmp .ge 5, .sipush 0, .istore 4, .goto_w 2]
def b712_2 : List Instr := [.iload 4, .aload 0, .getfield 11267, .iload 3, .aaload, .arraylength, .if_icmp .ge 3, .iload 1, .iload 4, .iadd, .aload 0, .getfield 11280, .if_icmp .ge 3, .aload 0, .getfield 11275, .iload 1, .iload 4, .iadd, .baload, .aload 0, .getfield 11267, .iload 3, .aaload, .iload 4, .caload, .if_icmp .ne 3, .iinc 4 1, .goto 2]
def b712_3 : List Instr := [.iload 2, .iload 1, .iload 4, .iadd, .invokeinterface 3841 2, .istore 2, .iload 4, .aload 0, .getfield 11267, .iload 3, .aaload, .arraylength, .if_icmp .ne 4, .aload 0, .iload 1, .iload 4, .iadd, .putfield 11288, .iload 3, .jsr 0]
def b712_4 : List Instr := [.iinc 3 1, .goto 1]
def b712_5 : List Instr := [.aload 0, .iload 2, .invokeinterface 710 2, .athrow]
/-- TimberHouse$NailRules.word()I -/
def m712 : pm_M := (fun j => [b712_0, b712_1, b712_2, b712_3, b712_4, b712_5].getD j [], fun _ => [], 11, 5)
def b713_0 : List Instr := [.aload 0, .getfield 11288, .istore 1, .sipush 0, .istore 2, .goto_w 1]
def b713_1 : List Instr := [.aload 0, .getfield 11288, .iload 1, .sipush 4, .iadd, .if_icmp .ge 2, .aload 0, .invokeinterface 709 1, .sipush 48, .if_icmp .lt 2, .aload 0, .invokeinterface 709 1, .sipush 57, .if_icmp .gt 2, .sipush 10, .iload 2, .imul, .aload 0, .invokeinterface 709 1, .iadd, .sipush 48, .isub, .istore 2, .aload 0, .dup, .getfield 11288, .sipush 1, .iadd, .putfield 11288, .goto 1]
def b713_2 : List Instr := [.aload 0, .getfield 11288, .iload 1, .if_icmp .eq 3, .iload 2, .ifCond .ne 4, .goto_w 3]
def b713_3 : List Instr := [.aload 0, .iload 1, .invokeinterface 710 2, .athrow]
def b713_4 : List Instr := [.iload 2, .jsr 0]
/-- TimberHouse$NailRules.number()I -/
def m713 : pm_M := (fun j => [b713_0, b713_1, b713_2, b713_3, b713_4].getD j [], fun _ => [], 11, 3)
def b714_0 : List Instr := [.aload 0, .iload 1, .invokeinterface 715 2, .astore 3, .iload 2, .i2l, .bipush 0, .bipush 6, .invokeinterface 706 3, .invokeinterface 716 1, .aload 3, .getfield 12291, .iload 2, .iaload, .jsr 0]
/-- TimberHouse$NailRules.rule(II)I -/
def m714 : pm_M := (fun j => [b714_0].getD j [], fun _ => [], 11, 4)
def b715_0 : List Instr := [.iload 1, .i2l, .bipush 0, .bipush 3, .invokeinterface 706 3, .invokeinterface 716 1, .aload 0, .getfield 11307, .iload 1, .aaload, .areturn]
/-- TimberHouse$NailRules.ruleAt(I)LTimberHouse$NailRules$Rule; -/
def m715 : pm_M := (fun j => [b715_0].getD j [], fun _ => [], 11, 2)
def b716_0 : List Instr := [.iload 0, .ifCond .ne 1, .ret 67, .athrow]
def b716_1 : List Instr := [.return_]
/-- TimberHouse$NailRules.there(Z)V -/
def m716 : pm_M := (fun j => [b716_0, b716_1].getD j [], fun _ => [], 0, 1)
def b717_0 : List Instr := [.iload 1, .i2l, .bipush 0, .bipush 1, .invokeinterface 706 3, .invokeinterface 716 1, .iload 2, .i2l, .sipush 1, .iload 1, .isub, .i2l, .bipush 100, .invokeinterface 706 3, .invokeinterface 718 1, .aload 0, .getfield 11315, .iload 1, .iload 2, .iastore, .return_]
/-- TimberHouse$NailRules.set(II)V -/
def m717 : pm_M := (fun j => [b717_0].getD j [], fun _ => [], 11, 3)
def b718_0 : List Instr := [.iload 0, .ifCond .ne 1, .ret 70, .athrow]
def b718_1 : List Instr := [.return_]
/-- TimberHouse$NailRules.proper(Z)V -/
def m718 : pm_M := (fun j => [b718_0, b718_1].getD j [], fun _ => [], 0, 1)
def b719_0 : List Instr := [.aload 0, .iload 1, .invokeinterface 715 2, .astore 6, .iload 5, .i2l, .bipush 0, .bipush 1, .invokeinterface 706 3, .invokeinterface 716 1, .iload 2, .i2l, .bipush 1, .bipush 1000, .invokeinterface 706 3, .ifCond .eq 1, .iload 3, .i2l, .bipush 1, .bipush 1000, .invokeinterface 706 3, .ifCond .eq 1, .iload 4, .i2l, .bipush 0, .bipush 90, .invokeinterface 706 3, .ifCond .eq 1, .sipush 1, .goto 2]
def b719_1 : List Instr := [.sipush 0, .goto_w 2]
def b719_2 : List Instr := [.invokeinterface 718 1, .sipush 0, .istore 7, .sipush 1, .istore 8, .goto_w 3]
def b719_3 : List Instr := [.iload 8, .sipush 4, .if_icmp .ge 6, .aload 6, .iload 8, .iload 2, .i2l, .iload 3, .i2l, .invokeinterface 769 4, .aload 6, .iload 7, .iload 2, .i2l, .iload 3, .i2l, .invokeinterface 769 4, .lcmp, .ifCond .ge 4, .iload 8, .goto 5]
def b719_4 : List Instr := [.iload 7, .goto_w 5]
def b719_5 : List Instr := [.istore 7, .iinc 8 1, .goto 3]
def b719_6 : List Instr := [.iload 5, .sipush 1, .if_icmp .ne 7, .iload 7, .i2l, .goto 8]
def b719_7 : List Instr := [.aload 6, .iload 7, .iload 2, .i2l, .iload 3, .i2l, .invokeinterface 769 4, .sipush 200, .iload 4, .isub, .i2l, .lmul, .bipush 200, .ldiv, .aload 0, .getfield 11315, .sipush 0, .iaload, .i2l, .lmul, .bipush 100, .ldiv, .goto_w 8]
def b719_8 : List Instr := [.lreturn]
/-- TimberHouse$NailRules.holds(IIIII)J -/
def m719 : pm_M := (fun j => [b719_0, b719_1, b719_2, b719_3, b719_4, b719_5, b719_6, b719_7, b719_8].getD j [], fun _ => [], 11, 9)
def b720_0 : List Instr := [.iload 1, .i2l, .bipush 0, .bipush 1000, .invokeinterface 706 3, .ifCond .eq 1, .lload 2, .bipush 0, .bipush 1000000000000, .invokeinterface 706 3, .ifCond .eq 1, .sipush 1, .goto 2]
def b720_1 : List Instr := [.sipush 0, .goto_w 2]
def b720_2 : List Instr := [.invokeinterface 718 1, .aload 0, .iload 1, .lload 2, .invokeinterface 721 3, .lreturn]
/-- TimberHouse$NailRules.together(IJ)J -/
def m720 : pm_M := (fun j => [b720_0, b720_1, b720_2].getD j [], fun _ => [], 11, 4)
def b721_0 : List Instr := [.bipush 50, .bipush 100, .aload 0, .getfield 11315, .sipush 1, .iaload, .i2l, .iload 1, .i2l, .bipush 1, .lsub, .lmul, .lsub, .invokeinterface 3843 2, .lstore 4, .iload 1, .i2l, .lload 2, .lmul, .iload 1, .ifCond .ne 1, .bipush 100, .goto 2]
def b721_1 : List Instr := [.lload 4, .goto_w 2]
def b721_2 : List Instr := [.lmul, .bipush 100, .ldiv, .lreturn]
/-- TimberHouse$NailRules.sum(IJ)J -/
def m721 : pm_M := (fun j => [b721_0, b721_1, b721_2].getD j [], fun _ => [], 11, 6)
def b722_0 : List Instr := [.lload 1, .bipush 0, .bipush 1000000000000, .invokeinterface 706 3, .ifCond .eq 1, .lload 3, .bipush 0, .bipush 1000000000000, .invokeinterface 706 3, .ifCond .eq 1, .sipush 1, .goto 2]
def b722_1 : List Instr := [.sipush 0, .goto_w 2]
def b722_2 : List Instr := [.invokeinterface 718 1, .sipush 1, .istore 5, .goto_w 3]
def b722_3 : List Instr := [.iload 5, .sipush 100, .if_icmp .gt 5, .aload 0, .iload 5, .lload 3, .invokeinterface 721 3, .lload 1, .lcmp, .ifCond .lt 4, .iload 5, .jsr 0]
def b722_4 : List Instr := [.iinc 5 1, .goto 3]
def b722_5 : List Instr := [.sipush (-1), .jsr 0]
/-- TimberHouse$NailRules.count(JJ)I -/
def m722 : pm_M := (fun j => [b722_0, b722_1, b722_2, b722_3, b722_4, b722_5].getD j [], fun _ => [], 11, 6)
def b723_0 : List Instr := [.aload 0, .iload 1, .invokeinterface 715 2, .astore 5, .iload 2, .i2l, .bipush 1, .bipush 100000, .invokeinterface 706 3, .ifCond .eq 1, .iload 3, .i2l, .bipush 1, .bipush 100000, .invokeinterface 706 3, .ifCond .eq 1, .iload 4, .i2l, .bipush 1, .bipush 100, .invokeinterface 706 3, .ifCond .eq 1, .sipush 1, .goto 2]
def b723_1 : List Instr := [.sipush 0, .goto_w 2]
def b723_2 : List Instr := [.invokeinterface 718 1, .iload 2, .sipush 2, .aload 5, .sipush 3, .invokeinterface 771 2, .imul, .isub, .aload 5, .sipush 4, .invokeinterface 771 2, .invokeinterface 724 2, .istore 6, .iload 3, .sipush 2, .aload 5, .sipush 2, .invokeinterface 771 2, .imul, .isub, .aload 5, .sipush 5, .invokeinterface 771 2, .invokeinterface 724 2, .istore 7, .iload 6, .i2l, .iload 7, .i2l, .lmul, .iload 4, .i2l, .lcmp, .ifCond .ge 3, .sipush 0, .jsr 2]
def b723_3 : List Instr := [.aload 0, .iload 1, .putfield 11320, .aload 0, .iload 6, .putfield 11328, .aload 0, .iload 4, .putfield 11336, .sipush 0, .istore 8, .goto_w 4]
def b723_4 : List Instr := [.iload 8, .sipush 4, .if_icmp .ge 5, .aload 0, .getfield 11347, .iload 8, .aload 5, .iload 8, .sipush 2, .iadd, .invokeinterface 771 2, .iastore, .iinc 8 1, .goto 4]
def b723_5 : List Instr := [.sipush 1, .jsr 2]
/-- TimberHouse$NailRules.pattern(IIII)Z -/
def m723 : pm_M := (fun j => [b723_0, b723_1, b723_2, b723_3, b723_4, b723_5].getD j [], fun _ => [], 11, 9)
def b724_0 : List Instr := [.iload 0, .ifCond .ge 1, .sipush 0, .goto 2]
def b724_1 : List Instr := [.iload 0, .iload 1, .idiv, .sipush 1, .iadd, .goto_w 2]
def b724_2 : List Instr := [.jsr 0]
/-- TimberHouse$NailRules.fit(II)I -/
def m724 : pm_M := (fun j => [b724_0, b724_1, b724_2].getD j [], fun _ => [], 0, 2)
def b725_0 : List Instr := [.aload 0, .getfield 11320, .sipush (-1), .if_icmp .eq 1, .sipush 1, .goto 2]
def b725_1 : List Instr := [.sipush 0, .goto_w 2]
def b725_2 : List Instr := [.invokeinterface 726 1, .iload 1, .i2l, .bipush 0, .aload 0, .getfield 11336, .sipush 1, .isub, .i2l, .invokeinterface 706 3, .ifCond .eq 3, .iload 2, .i2l, .bipush 0, .bipush 1, .invokeinterface 706 3, .ifCond .eq 3, .sipush 1, .goto 4]
def b725_3 : List Instr := [.sipush 0, .goto_w 4]
def b725_4 : List Instr := [.invokeinterface 716 1, .iload 2, .ifCond .ne 5, .aload 0, .getfield 11347, .sipush 1, .iaload, .iload 1, .aload 0, .getfield 11328, .irem, .aload 0, .getfield 11347, .sipush 2, .iaload, .imul, .iadd, .goto 6]
def b725_5 : List Instr := [.aload 0, .getfield 11347, .sipush 0, .iaload, .iload 1, .aload 0, .getfield 11328, .idiv, .aload 0, .getfield 11347, .sipush 3, .iaload, .imul, .iadd, .goto_w 6]
def b725_6 : List Instr := [.jsr 0]
/-- TimberHouse$NailRules.at(II)I -/
def m725 : pm_M := (fun j => [b725_0, b725_1, b725_2, b725_3, b725_4, b725_5, b725_6].getD j [], fun _ => [], 11, 3)
def b726_0 : List Instr := [.iload 0, .ifCond .ne 1, .ret 71, .athrow]
def b726_1 : List Instr := [.return_]
/-- TimberHouse$NailRules.can(Z)V -/
def m726 : pm_M := (fun j => [b726_0, b726_1].getD j [], fun _ => [], 0, 1)
def b727_0 : List Instr := [.iload 1, .i2l, .bipush 0, .bipush 100000, .invokeinterface 706 3, .ifCond .eq 1, .iload 2, .i2l, .bipush 0, .bipush 100000, .invokeinterface 706 3, .ifCond .eq 1, .sipush 1, .goto 2]
def b727_1 : List Instr := [.sipush 0, .goto_w 2]
def b727_2 : List Instr := [.invokeinterface 718 1, .aload 0, .getfield 11360, .sipush 32, .if_icmp .ge 3, .sipush 1, .goto 4]
def b727_3 : List Instr := [.sipush 0, .goto_w 4]
def b727_4 : List Instr := [.invokeinterface 726 1, .aload 0, .getfield 11355, .aload 0, .getfield 11360, .aaload, .sipush 0, .iload 1, .iastore, .aload 0, .getfield 11355, .aload 0, .getfield 11360, .aaload, .sipush 1, .iload 2, .iastore, .aload 0, .dup, .getfield 11360, .sipush 1, .iadd, .dup_x1, .putfield 11360, .jsr 0]
/-- TimberHouse$NailRules.place(II)I -/
def m727 : pm_M := (fun j => [b727_0, b727_1, b727_2, b727_3, b727_4].getD j [], fun _ => [], 11, 3)
def b728_0 : List Instr := [.aload 0, .sipush 0, .putfield 11360, .return_]
/-- TimberHouse$NailRules.clear()V -/
def m728 : pm_M := (fun j => [b728_0].getD j [], fun _ => [], 11, 1)
def b729_0 : List Instr := [.aload 0, .iload 1, .invokeinterface 715 2, .astore 4, .iload 2, .i2l, .bipush 1, .bipush 100000, .invokeinterface 706 3, .ifCond .eq 1, .iload 3, .i2l, .bipush 1, .bipush 100000, .invokeinterface 706 3, .ifCond .eq 1, .sipush 1, .goto 2]
def b729_1 : List Instr := [.sipush 0, .goto_w 2]
def b729_2 : List Instr := [.invokeinterface 718 1, .sipush 0, .istore 5, .goto_w 3]
def b729_3 : List Instr := [.iload 5, .aload 0, .getfield 11360, .if_icmp .ge 6, .aload 0, .getfield 11355, .iload 5, .aaload, .sipush 0, .iaload, .iload 2, .aload 4, .sipush 3, .invokeinterface 771 2, .invokeinterface 730 3, .ifCond .eq 4, .aload 0, .getfield 11355, .iload 5, .aaload, .sipush 1, .iaload, .iload 3, .aload 4, .sipush 2, .invokeinterface 771 2, .invokeinterface 730 3, .ifCond .ne 5, .goto_w 4]
def b729_4 : List Instr := [.sipush 1, .iload 5, .iadd, .jsr 0]
def b729_5 : List Instr := [.iinc 5 1, .goto 3]
def b729_6 : List Instr := [.aload 4, .sipush 4, .invokeinterface 771 2, .i2l, .lstore 5, .sipush 0, .istore 7, .goto_w 7]
def b729_7 : List Instr := [.iload 7, .aload 0, .getfield 11360, .if_icmp .ge 11, .iload 7, .sipush 1, .iadd, .istore 8, .goto_w 8]
def b729_8 : List Instr := [.iload 8, .aload 0, .getfield 11360, .if_icmp .ge 10, .aload 0, .getfield 11355, .iload 7, .aaload, .sipush 0, .iaload, .aload 0, .getfield 11355, .iload 8, .aaload, .sipush 0, .iaload, .isub, .i2l, .lstore 9, .aload 0, .getfield 11355, .iload 7, .aaload, .sipush 1, .iaload, .aload 0, .getfield 11355, .iload 8, .aaload, .sipush 1, .iaload, .isub, .i2l, .lstore 11, .lload 9, .lload 9, .lmul, .lload 11, .lload 11, .lmul, .ladd, .lload 5, .lload 5, .lmul, .lcmp, .ifCond .ge 9, .sipush 100, .sipush 32, .iload 7, .imul, .iadd, .iload 8, .iadd, .jsr 0]
def b729_9 : List Instr := [.iinc 8 1, .goto 8]
def b729_10 : List Instr := [.iinc 7 1, .goto 7]
def b729_11 : List Instr := [.sipush 0, .jsr 0]
/-- TimberHouse$NailRules.keeps(III)I -/
def m729 : pm_M := (fun j => [b729_0, b729_1, b729_2, b729_3, b729_4, b729_5, b729_6, b729_7, b729_8, b729_9, b729_10, b729_11].getD j [], fun _ => [], 11, 13)
def b730_0 : List Instr := [.iload 0, .iload 2, .if_icmp .lt 1, .iload 1, .iload 0, .isub, .iload 2, .if_icmp .lt 1, .sipush 1, .goto 2]
def b730_1 : List Instr := [.sipush 0, .goto_w 2]
def b730_2 : List Instr := [.jsr 2]
/-- TimberHouse$NailRules.keepsSide(III)Z -/
def m730 : pm_M := (fun j => [b730_0, b730_1, b730_2].getD j [], fun _ => [], 0, 3)
def b731_0 : List Instr := [.iload 1, .invokeinterface 732 1, .ifCond .eq 2, .iload 2, .invokeinterface 732 1, .ifCond .eq 2, .iload 3, .invokeinterface 732 1, .ifCond .eq 2, .iload 4, .invokeinterface 732 1, .ifCond .eq 2, .iload 1, .iload 3, .if_icmp .ne 1, .iload 2, .iload 4, .if_icmp .eq 2, .goto_w 1]
def b731_1 : List Instr := [.iload 5, .i2l, .bipush 1, .bipush 10000, .invokeinterface 706 3, .ifCond .eq 2, .sipush 1, .goto 3]
def b731_2 : List Instr := [.sipush 0, .goto_w 3]
def b731_3 : List Instr := [.invokeinterface 718 1, .aload 0, .getfield 11376, .sipush 6, .if_icmp .ge 4, .sipush 1, .goto 5]
def b731_4 : List Instr := [.sipush 0, .goto_w 5]
def b731_5 : List Instr := [.invokeinterface 726 1, .aload 0, .getfield 11371, .aload 0, .getfield 11376, .new 46, .dup, .iload 1, .i2l, .iload 2, .i2l, .iload 3, .i2l, .iload 4, .i2l, .iload 5, .i2l, .invokeinterface 2944 6, .aastore, .aload 0, .dup, .getfield 11376, .dup_x1, .sipush 1, .iadd, .putfield 11376, .jsr 0]
/-- TimberHouse$NailRules.member(IIIII)I -/
def m731 : pm_M := (fun j => [b731_0, b731_1, b731_2, b731_3, b731_4, b731_5].getD j [], fun _ => [], 11, 6)
def b732_0 : List Instr := [.iload 0, .sipush (-10000), .if_icmp .lt 1, .iload 0, .sipush 10000, .if_icmp .gt 1, .sipush 1, .goto 2]
def b732_1 : List Instr := [.sipush 0, .goto_w 2]
def b732_2 : List Instr := [.jsr 2]
/-- TimberHouse$NailRules.isPlace(I)Z -/
def m732 : pm_M := (fun j => [b732_0, b732_1, b732_2].getD j [], fun _ => [], 0, 1)
def b733_0 : List Instr := [.aload 0, .iload 1, .invokeinterface 734 2, .astore 4, .iload 2, .invokeinterface 732 1, .ifCond .eq 1, .iload 3, .invokeinterface 732 1, .ifCond .eq 1, .sipush 1, .goto 2]
def b733_1 : List Instr := [.sipush 0, .goto_w 2]
def b733_2 : List Instr := [.invokeinterface 718 1, .aload 4, .iload 2, .i2l, .iload 3, .i2l, .invokeinterface 2945 3, .jsr 2]
/-- TimberHouse$NailRules.in(III)Z -/
def m733 : pm_M := (fun j => [b733_0, b733_1, b733_2].getD j [], fun _ => [], 11, 5)
def b734_0 : List Instr := [.iload 1, .i2l, .bipush 0, .aload 0, .getfield 11376, .sipush 1, .isub, .i2l, .invokeinterface 706 3, .invokeinterface 716 1, .aload 0, .getfield 11371, .iload 1, .aaload, .areturn]
/-- TimberHouse$NailRules.memberAt(I)LTimberHouse$NailRules$Member; -/
def m734 : pm_M := (fun j => [b734_0].getD j [], fun _ => [], 11, 2)
def b735_0 : List Instr := [.aload 0, .iload 1, .invokeinterface 734 2, .astore 7, .iload 2, .invokeinterface 732 1, .ifCond .eq 1, .iload 3, .invokeinterface 732 1, .ifCond .eq 1, .iload 4, .i2l, .bipush 0, .bipush 1000, .invokeinterface 706 3, .ifCond .eq 1, .iload 5, .i2l, .bipush 0, .bipush 1000, .invokeinterface 706 3, .ifCond .eq 1, .iload 6, .i2l, .bipush 10, .bipush 1000, .invokeinterface 706 3, .ifCond .eq 1, .sipush 1, .goto 2]
def b735_1 : List Instr := [.sipush 0, .goto_w 2]
def b735_2 : List Instr := [.invokeinterface 718 1, .sipush 0, .istore 8, .sipush 0, .istore 9, .goto_w 3]
def b735_3 : List Instr := [.iload 9, .iload 5, .if_icmp .gt 8, .sipush 0, .istore 10, .goto_w 4]
def b735_4 : List Instr := [.iload 10, .iload 4, .if_icmp .gt 7, .iload 8, .aload 7, .iload 2, .iload 10, .iadd, .i2l, .iload 3, .iload 9, .iadd, .i2l, .invokeinterface 2945 3, .ifCond .eq 5, .sipush 1, .goto 6]
def b735_5 : List Instr := [.sipush 0, .goto_w 6]
def b735_6 : List Instr := [.iadd, .istore 8, .iload 10, .iload 6, .iadd, .istore 10, .goto 4]
def b735_7 : List Instr := [.iload 9, .iload 6, .iadd, .istore 9, .goto 3]
def b735_8 : List Instr := [.iload 8, .jsr 0]
/-- TimberHouse$NailRules.teeth(IIIIII)I -/
def m735 : pm_M := (fun j => [b735_0, b735_1, b735_2, b735_3, b735_4, b735_5, b735_6, b735_7, b735_8].getD j [], fun _ => [], 11, 11)
def b736_0 : List Instr := [.aload 0, .iload 1, .invokeinterface 715 2, .astore 3, .iload 2, .ifCond .lt 1, .sipush 1, .goto 2]
def b736_1 : List Instr := [.sipush 0, .goto_w 2]
def b736_2 : List Instr := [.invokeinterface 718 1, .iload 2, .aload 3, .sipush 6, .invokeinterface 771 2, .if_icmp .lt 3, .sipush 1, .goto 4]
def b736_3 : List Instr := [.sipush 0, .goto_w 4]
def b736_4 : List Instr := [.jsr 2]
/-- TimberHouse$NailRules.thick(II)Z -/
def m736 : pm_M := (fun j => [b736_0, b736_1, b736_2, b736_3, b736_4].getD j [], fun _ => [], 11, 4)
def b737_0 : List Instr := [.aload 0, .iload 1, .invokeinterface 715 2, .invokeinterface 770 1, .istore 2, .getstatic 1, .iload 1, .caload, .lookupswitch 5 #[(98, 4), (110, 1), (115, 3)]]
def b737_1 : List Instr := [.iload 2, .sipush 50, .if_icmp .le 2, .iload 2, .sipush 7, .imul, .sipush 10, .idiv, .goto 6]
def b737_2 : List Instr := [.sipush 0, .goto 6]
def b737_3 : List Instr := [.iload 2, .sipush 7, .imul, .sipush 10, .idiv, .goto 6]
def b737_4 : List Instr := [.iload 2, .sipush 10, .iadd, .goto 6]
def b737_5 : List Instr := [.iload 2, .goto_w 6]
def b737_6 : List Instr := [.jsr 0]
/-- TimberHouse$NailRules.hole(I)I -/
def m737 : pm_M := (fun j => [b737_0, b737_1, b737_2, b737_3, b737_4, b737_5, b737_6].getD j [], fun _ => [], 11, 3)
def b768_0 : List Instr := [.aload 0, .f2i, .aload 0, .sipush 7, .newarray .int, .dup, .sipush 0, .sipush 1, .iastore, .dup, .sipush 1, .sipush 1, .iastore, .dup, .sipush 2, .sipush 1, .iastore, .dup, .sipush 3, .sipush 1, .iastore, .dup, .sipush 4, .sipush 1, .iastore, .dup, .sipush 5, .sipush 1, .iastore, .dup, .sipush 6, .sipush 1, .iastore, .putfield 12291, .return_]
/-- TimberHouse$NailRules$Rule.<init>()V -/
def m768 : pm_M := (fun j => [b768_0].getD j [], fun _ => [], 12, 1)
def b769_0 : List Instr := [.aload 0, .getfield 12291, .sipush 1, .iaload, .i2l, .lstore 6, .iload 1, .tableswitch 4 0 2 #[1, 2, 3]]
def b769_1 : List Instr := [.lload 6, .lload 2, .lmul, .aload 0, .invokeinterface 770 1, .i2l, .lmul, .goto 5]
def b769_2 : List Instr := [.lload 6, .lload 4, .lmul, .aload 0, .invokeinterface 770 1, .i2l, .lmul, .goto 5]
def b769_3 : List Instr := [.lload 6, .lload 2, .lload 4, .ladd, .lmul, .aload 0, .invokeinterface 770 1, .i2l, .lmul, .bipush 2, .ldiv, .goto 5]
def b769_4 : List Instr := [.lload 6, .aload 0, .invokeinterface 770 1, .i2l, .lmul, .aload 0, .invokeinterface 770 1, .i2l, .lmul, .bipush 4, .lmul, .goto_w 5]
def b769_5 : List Instr := [.lreturn]
/-- TimberHouse$NailRules$Rule.formula(IJJ)J -/
def m769 : pm_M := (fun j => [b769_0, b769_1, b769_2, b769_3, b769_4, b769_5].getD j [], fun _ => [], 12, 8)
def b770_0 : List Instr := [.aload 0, .getfield 12291, .sipush 0, .iaload, .jsr 0]
/-- TimberHouse$NailRules$Rule.size()I -/
def m770 : pm_M := (fun j => [b770_0].getD j [], fun _ => [], 12, 1)
def b771_0 : List Instr := [.aload 0, .getfield 12291, .iload 1, .iaload, .aload 0, .getfield 12291, .sipush 0, .iaload, .imul, .jsr 0]
/-- TimberHouse$NailRules$Rule.space(I)I -/
def m771 : pm_M := (fun j => [b771_0].getD j [], fun _ => [], 12, 2)
def b832_0 : List Instr := [.aload 0, .f2i, .aload 0, .new 63, .dup, .invokeinterface 4032 1, .putfield 13339, .aload 0, .new 63, .dup, .invokeinterface 4032 1, .putfield 13347, .aload 0, .sipush 20, .anewarray 10, .putfield 13355, .aload 0, .new 14, .dup, .invokeinterface 896 1, .putfield 13363, .aload 0, .sipush 8, .newarray .int, .putfield 13371, .aload 0, .new 15, .dup, .iload 1, .sipush 0, .sipush 3, .invokeinterface 833 3, .invokeinterface 960 2, .putfield 13315, .aload 0, .iload 2, .sipush 1, .sipush 3, .invokeinterface 833 3, .putfield 13320, .aload 0, .iload 3, .sipush 1, .sipush 16, .invokeinterface 833 3, .putfield 13328, .sipush 0, .istore 4, .goto_w 1]
def b832_1 : List Instr := [.iload 4, .sipush 20, .if_icmp .ge 2, .aload 0, .getfield 13355, .iload 4, .new 14, .dup, .invokeinterface 896 1, .aastore, .iinc 4 1, .goto 1]
def b832_2 : List Instr := [.return_]
/-- TimberHouse$SheetTrees.<init>(III)V -/
def m832 : pm_M := (fun j => [b832_0, b832_1, b832_2].getD j [], fun _ => [], 13, 5)
def b833_0 : List Instr := [.iload 1, .iload 2, .iload 0, .invokeinterface 3840 2, .invokeinterface 3841 2, .jsr 0]
/-- TimberHouse$SheetTrees.near(III)I -/
def m833 : pm_M := (fun j => [b833_0].getD j [], fun _ => [], 0, 3)
def b834_0 : List Instr := [.aload 0, .iload 1, .invokeinterface 835 2, .astore 3, .iload 2, .sipush 8, .invokeinterface 837 2, .iload 2, .tableswitch 8 0 6 #[1, 2, 3, 4, 5, 6, 7]]
def b834_1 : List Instr := [.aload 3, .getfield 14336, .goto 9]
def b834_2 : List Instr := [.aload 3, .getfield 14352, .goto 9]
def b834_3 : List Instr := [.aload 3, .getfield 14376, .goto 9]
def b834_4 : List Instr := [.aload 3, .getfield 14368, .goto 9]
def b834_5 : List Instr := [.aload 3, .getfield 14344, .goto 9]
def b834_6 : List Instr := [.aload 3, .getfield 14384, .goto 9]
def b834_7 : List Instr := [.aload 3, .getfield 14360, .goto 9]
def b834_8 : List Instr := [.aload 0, .iload 1, .invokeinterface 838 2, .goto_w 9]
def b834_9 : List Instr := [.jsr 0]
/-- TimberHouse$SheetTrees.cut(II)I -/
def m834 : pm_M := (fun j => [b834_0, b834_1, b834_2, b834_3, b834_4, b834_5, b834_6, b834_7, b834_8, b834_9].getD j [], fun _ => [], 13, 4)
def b835_0 : List Instr := [.aload 0, .getfield 13386, .invokeinterface 836 1, .iload 1, .aload 0, .getfield 13376, .invokeinterface 837 2, .aload 0, .getfield 13355, .iload 1, .aaload, .areturn]
/-- TimberHouse$SheetTrees.at(I)LTimberHouse$SheetTrees$CutSheet; -/
def m835 : pm_M := (fun j => [b835_0].getD j [], fun _ => [], 13, 2)
def b836_0 : List Instr := [.iload 0, .ifCond .ne 1, .ret 71, .athrow]
def b836_1 : List Instr := [.return_]
/-- TimberHouse$SheetTrees.can(Z)V -/
def m836 : pm_M := (fun j => [b836_0, b836_1].getD j [], fun _ => [], 0, 1)
def b837_0 : List Instr := [.iload 0, .ifCond .lt 1, .iload 0, .iload 1, .if_icmp .lt 2, .goto_w 1]
def b837_1 : List Instr := [.ret 67, .athrow]
def b837_2 : List Instr := [.return_]
/-- TimberHouse$SheetTrees.inside(II)V -/
def m837 : pm_M := (fun j => [b837_0, b837_1, b837_2].getD j [], fun _ => [], 0, 2)
def b838_0 : List Instr := [.sipush 0, .istore 2, .goto_w 1]
def b838_1 : List Instr := [.aload 0, .getfield 13355, .iload 2, .aaload, .aload 0, .getfield 13355, .iload 1, .aaload, .invokeinterface 897 2, .ifCond .ne 2, .iinc 2 1, .goto 1]
def b838_2 : List Instr := [.iload 2, .jsr 0]
/-- TimberHouse$SheetTrees.alike(I)I -/
def m838 : pm_M := (fun j => [b838_0, b838_1, b838_2].getD j [], fun _ => [], 13, 3)
def b839_0 : List Instr := [.aload 0, .iload 1, .invokeinterface 835 2, .astore 4, .iload 2, .aload 4, .getfield 14352, .invokeinterface 837 2, .iload 3, .sipush 5, .invokeinterface 837 2, .aload 4, .getfield 14411, .sipush 5, .iload 2, .imul, .iload 3, .iadd, .baload, .jsr 0]
/-- TimberHouse$SheetTrees.taken(III)I -/
def m839 : pm_M := (fun j => [b839_0].getD j [], fun _ => [], 13, 5)
def b840_0 : List Instr := [.aload 0, .getfield 13386, .invokeinterface 836 1, .iload 1, .sipush 3, .invokeinterface 837 2, .bipush 0, .lstore 2, .sipush 0, .istore 4, .goto_w 1]
def b840_1 : List Instr := [.iload 4, .aload 0, .getfield 13376, .if_icmp .ge 5, .aload 0, .getfield 13339, .aload 0, .getfield 13355, .iload 4, .aaload, .getfield 14336, .invokeinterface 4034 2, .checkcast 47, .astore 5, .lload 2, .iload 1, .ifCond .ne 2, .aload 5, .getfield 48144, .i2l, .goto 4]
def b840_2 : List Instr := [.iload 1, .sipush 1, .if_icmp .ne 3, .aload 5, .invokeinterface 3008 1, .i2l, .goto 4]
def b840_3 : List Instr := [.aload 0, .getfield 13355, .iload 4, .aaload, .getfield 14376, .i2l, .goto_w 4]
def b840_4 : List Instr := [.ladd, .lstore 2, .iinc 4 1, .goto 1]
def b840_5 : List Instr := [.lload 2, .lreturn]
/-- TimberHouse$SheetTrees.all(I)J -/
def m840 : pm_M := (fun j => [b840_0, b840_1, b840_2, b840_3, b840_4, b840_5].getD j [], fun _ => [], 13, 6)
def b841_0 : List Instr := [.iload 1, .invokeinterface 842 1, .ifCond .eq 1, .iload 2, .invokeinterface 842 1, .ifCond .eq 1, .iload 3, .sipush 1, .sipush 10000, .invokeinterface 843 3, .ifCond .eq 1, .iload 4, .sipush 0, .sipush 20, .invokeinterface 843 3, .ifCond .eq 1, .sipush 1, .goto 2]
def b841_1 : List Instr := [.sipush 0, .goto_w 2]
def b841_2 : List Instr := [.invokeinterface 844 1, .aload 0, .getfield 13339, .invokeinterface 4033 1, .sipush 4, .if_icmp .ge 3, .sipush 1, .goto 4]
def b841_3 : List Instr := [.sipush 0, .goto_w 4]
def b841_4 : List Instr := [.invokeinterface 836 1, .aload 0, .getfield 13339, .new 47, .dup, .iload 1, .iload 2, .iload 3, .iload 4, .invokeinterface 3009 5, .invokeinterface 4036 2, .pop, .aload 0, .sipush 0, .putfield 13386, .aload 0, .getfield 13339, .invokeinterface 4033 1, .sipush 1, .isub, .jsr 0]
/-- TimberHouse$SheetTrees.sheet(IIII)I -/
def m841 : pm_M := (fun j => [b841_0, b841_1, b841_2, b841_3, b841_4].getD j [], fun _ => [], 13, 5)
def b842_0 : List Instr := [.iload 0, .sipush 1, .sipush 16, .invokeinterface 843 3, .jsr 2]
/-- TimberHouse$SheetTrees.isSide(I)Z -/
def m842 : pm_M := (fun j => [b842_0].getD j [], fun _ => [], 0, 1)
def b843_0 : List Instr := [.iload 0, .iload 1, .if_icmp .lt 1, .iload 0, .iload 2, .if_icmp .gt 1, .sipush 1, .goto 2]
def b843_1 : List Instr := [.sipush 0, .goto_w 2]
def b843_2 : List Instr := [.jsr 2]
/-- TimberHouse$SheetTrees.isIn(III)Z -/
def m843 : pm_M := (fun j => [b843_0, b843_1, b843_2].getD j [], fun _ => [], 0, 3)
def b844_0 : List Instr := [.iload 0, .ifCond .ne 1, .ret 70, .athrow]
def b844_1 : List Instr := [.return_]
/-- TimberHouse$SheetTrees.need(Z)V -/
def m844 : pm_M := (fun j => [b844_0, b844_1].getD j [], fun _ => [], 0, 1)
def b845_0 : List Instr := [.iload 1, .invokeinterface 842 1, .ifCond .eq 1, .iload 2, .invokeinterface 842 1, .ifCond .eq 1, .iload 3, .sipush 0, .sipush 50, .invokeinterface 843 3, .ifCond .eq 1, .sipush 1, .goto 2]
def b845_1 : List Instr := [.sipush 0, .goto_w 2]
def b845_2 : List Instr := [.invokeinterface 844 1, .aload 0, .getfield 13347, .invokeinterface 4033 1, .sipush 8, .if_icmp .ge 3, .sipush 1, .goto 4]
def b845_3 : List Instr := [.sipush 0, .goto_w 4]
def b845_4 : List Instr := [.invokeinterface 836 1, .aload 0, .getfield 13347, .new 48, .dup, .iload 1, .iload 2, .iload 3, .iload 4, .invokeinterface 3072 5, .invokeinterface 4036 2, .pop, .aload 0, .sipush 0, .putfield 13386, .aload 0, .getfield 13347, .invokeinterface 4033 1, .sipush 1, .isub, .jsr 0]
/-- TimberHouse$SheetTrees.part(IIIZ)I -/
def m845 : pm_M := (fun j => [b845_0, b845_1, b845_2, b845_3, b845_4].getD j [], fun _ => [], 13, 5)
def b846_0 : List Instr := [.iload 1, .aload 0, .getfield 13347, .invokeinterface 4033 1, .invokeinterface 837 2, .iload 2, .sipush 0, .sipush 50, .invokeinterface 843 3, .invokeinterface 844 1, .aload 0, .getfield 13347, .iload 1, .invokeinterface 4034 2, .checkcast 48, .astore 3, .aload 3, .getfield 49176, .istore 4, .aload 3, .iload 2, .putfield 49176, .aload 0, .sipush 0, .putfield 13386, .iload 4, .jsr 0]
/-- TimberHouse$SheetTrees.count(II)I -/
def m846 : pm_M := (fun j => [b846_0].getD j [], fun _ => [], 13, 5)
def b847_0 : List Instr := [.iload 1, .invokeinterface 842 1, .ifCond .eq 1, .iload 2, .invokeinterface 842 1, .ifCond .eq 1, .iload 3, .sipush 0, .sipush 1, .invokeinterface 843 3, .ifCond .eq 1, .iload 4, .sipush 0, .sipush 3, .invokeinterface 843 3, .ifCond .eq 1, .sipush 1, .goto 2]
def b847_1 : List Instr := [.sipush 0, .goto_w 2]
def b847_2 : List Instr := [.invokeinterface 844 1, .sipush 8, .newarray .int, .astore 5, .sipush 0, .istore 6, .goto_w 3]
def b847_3 : List Instr := [.iload 6, .aload 0, .getfield 13347, .invokeinterface 4033 1, .if_icmp .ge 4, .aload 5, .iload 6, .aload 0, .getfield 13347, .iload 6, .invokeinterface 4034 2, .checkcast 48, .getfield 49184, .iastore, .aload 0, .getfield 13347, .iload 6, .invokeinterface 4034 2, .checkcast 48, .aload 0, .getfield 13347, .iload 6, .invokeinterface 4034 2, .checkcast 48, .getfield 49176, .putfield 49184, .iinc 6 1, .goto 3]
def b847_4 : List Instr := [.aload 0, .getfield 13315, .aload 0, .getfield 13347, .invokeinterface 961 2, .sipush 0, .istore 6, .goto_w 5]
def b847_5 : List Instr := [.iload 6, .aload 0, .getfield 13347, .invokeinterface 4033 1, .if_icmp .ge 6, .aload 0, .getfield 13347, .iload 6, .invokeinterface 4034 2, .checkcast 48, .aload 5, .iload 6, .iaload, .putfield 49184, .iinc 6 1, .goto 5]
def b847_6 : List Instr := [.aload 0, .getfield 13315, .getfield 15371, .iload 4, .iload 3, .invokeinterface 964 2, .aaload, .iload 1, .aaload, .iload 2, .iaload, .jsr 0]
/-- TimberHouse$SheetTrees.worth(IIII)I -/
def m847 : pm_M := (fun j => [b847_0, b847_1, b847_2, b847_3, b847_4, b847_5, b847_6].getD j [], fun _ => [], 13, 7)
def b848_0 : List Instr := [.aload 0, .invokeinterface 849 1, .aload 0, .sipush 0, .putfield 13376, .aload 0, .sipush 1, .putfield 13386, .sipush 1, .istore 1, .goto_w 1]
def b848_1 : List Instr := [.iload 1, .ifCond .eq 6, .aload 0, .getfield 13376, .sipush 20, .if_icmp .ge 6, .aload 0, .getfield 13315, .aload 0, .getfield 13347, .invokeinterface 961 2, .aload 0, .invokeinterface 850 1, .istore 2, .iload 2, .sipush (-1), .if_icmp .eq 2, .sipush 1, .goto 3]
def b848_2 : List Instr := [.sipush 0, .goto_w 3]
def b848_3 : List Instr := [.istore 1, .iload 1, .ifCond .eq 5, .aload 0, .aload 0, .getfield 13355, .aload 0, .dup, .getfield 13376, .dup_x1, .sipush 1, .iadd, .putfield 13376, .aaload, .iload 2, .invokeinterface 851 3, .aload 0, .getfield 13339, .iload 2, .invokeinterface 4034 2, .checkcast 47, .dup, .getfield 48160, .sipush 1, .isub, .putfield 48160, .sipush 0, .istore 3, .goto_w 4]
def b848_4 : List Instr := [.iload 3, .aload 0, .getfield 13347, .invokeinterface 4033 1, .if_icmp .ge 5, .aload 0, .getfield 13347, .iload 3, .invokeinterface 4034 2, .checkcast 48, .aload 0, .getfield 13371, .iload 3, .iaload, .putfield 49184, .iinc 3 1, .goto 4]
def b848_5 : List Instr := [.goto 1]
def b848_6 : List Instr := [.aload 0, .getfield 13376, .jsr 0]
/-- TimberHouse$SheetTrees.run()I -/
def m848 : pm_M := (fun j => [b848_0, b848_1, b848_2, b848_3, b848_4, b848_5, b848_6].getD j [], fun _ => [], 13, 4)
def b849_0 : List Instr := [.sipush 0, .istore 1, .goto_w 1]
def b849_1 : List Instr := [.iload 1, .aload 0, .getfield 13339, .invokeinterface 4033 1, .if_icmp .ge 2, .aload 0, .getfield 13339, .iload 1, .invokeinterface 4034 2, .checkcast 47, .aload 0, .getfield 13339, .iload 1, .invokeinterface 4034 2, .checkcast 47, .getfield 48152, .putfield 48160, .iinc 1 1, .goto 1]
def b849_2 : List Instr := [.sipush 0, .istore 1, .goto_w 3]
def b849_3 : List Instr := [.iload 1, .aload 0, .getfield 13347, .invokeinterface 4033 1, .if_icmp .ge 4, .aload 0, .getfield 13347, .iload 1, .invokeinterface 4034 2, .checkcast 48, .aload 0, .getfield 13347, .iload 1, .invokeinterface 4034 2, .checkcast 48, .getfield 49176, .putfield 49184, .iinc 1 1, .goto 3]
def b849_4 : List Instr := [.return_]
/-- TimberHouse$SheetTrees.begin()V -/
def m849 : pm_M := (fun j => [b849_0, b849_1, b849_2, b849_3, b849_4].getD j [], fun _ => [], 13, 2)
def b850_0 : List Instr := [.sipush (-1), .istore 1, .sipush 0, .istore 2, .sipush 0, .istore 3, .goto_w 1]
def b850_1 : List Instr := [.iload 3, .aload 0, .getfield 13339, .invokeinterface 4033 1, .if_icmp .ge 5, .aload 0, .getfield 13339, .iload 3, .invokeinterface 4034 2, .checkcast 47, .astore 4, .aload 4, .getfield 48160, .ifCond .ne 2, .goto 4]
def b850_2 : List Instr := [.aload 0, .aload 0, .getfield 13363, .iload 3, .invokeinterface 851 3, .aload 0, .getfield 13363, .getfield 14376, .ifCond .le 4, .iload 1, .sipush (-1), .if_icmp .eq 3, .aload 0, .getfield 13363, .getfield 14376, .aload 0, .getfield 13339, .iload 1, .invokeinterface 4034 2, .checkcast 47, .getfield 48144, .imul, .iload 2, .aload 4, .getfield 48144, .imul, .if_icmp .le 4, .goto_w 3]
def b850_3 : List Instr := [.iload 3, .istore 1, .aload 0, .getfield 13363, .getfield 14376, .istore 2, .goto_w 4]
def b850_4 : List Instr := [.iinc 3 1, .goto 1]
def b850_5 : List Instr := [.iload 1, .jsr 0]
/-- TimberHouse$SheetTrees.next()I -/
def m850 : pm_M := (fun j => [b850_0, b850_1, b850_2, b850_3, b850_4, b850_5].getD j [], fun _ => [], 13, 5)
def b851_0 : List Instr := [.aload 0, .getfield 13339, .iload 2, .invokeinterface 4034 2, .checkcast 47, .astore 3, .aload 0, .getfield 13320, .sipush 0, .invokeinterface 964 2, .istore 4, .aload 0, .getfield 13315, .iload 4, .sipush 1, .iadd, .iload 4, .aload 3, .getfield 48128, .aload 3, .getfield 48136, .invokeinterface 965 5, .ifCond .eq 1, .sipush 1, .goto 2]
def b851_1 : List Instr := [.sipush 0, .goto_w 2]
def b851_2 : List Instr := [.istore 5, .sipush 0, .istore 6, .goto_w 3]
def b851_3 : List Instr := [.iload 6, .aload 0, .getfield 13347, .invokeinterface 4033 1, .if_icmp .ge 4, .aload 0, .getfield 13371, .iload 6, .aload 0, .getfield 13347, .iload 6, .invokeinterface 4034 2, .checkcast 48, .getfield 49184, .iastore, .iinc 6 1, .goto 3]
def b851_4 : List Instr := [.aload 1, .iload 2, .iload 5, .invokeinterface 898 3, .aload 0, .aload 1, .iload 4, .iload 5, .iadd, .sipush 0, .sipush 0, .aload 3, .getfield 48128, .aload 3, .getfield 48136, .invokeinterface 852 7, .return_]
/-- TimberHouse$SheetTrees.draw(LTimberHouse$SheetTrees$CutSheet;I)V -/
def m851 : pm_M := (fun j => [b851_0, b851_1, b851_2, b851_3, b851_4].getD j [], fun _ => [], 13, 7)
def b852_0 : List Instr := [.aload 0, .getfield 13315, .getfield 15387, .iload 2, .aaload, .iload 5, .aaload, .iload 6, .baload, .istore 7, .aload 1, .getfield 14403, .aload 1, .dup, .getfield 14392, .dup_x1, .sipush 1, .iadd, .putfield 14392, .iload 7, .i2b, .bastore, .iload 7, .ifCond .ne 1, .iload 5, .aload 0, .getfield 13328, .if_icmp .lt 13, .iload 6, .aload 0, .getfield 13328, .if_icmp .lt 13, .aload 1, .iload 3, .iload 4, .iload 5, .iload 6, .invokeinterface 899 5, .goto 13]
def b852_1 : List Instr := [.iload 7, .sipush 100, .if_icmp .ge 3, .iload 7, .sipush 1, .isub, .istore 8, .aload 0, .getfield 13371, .iload 8, .iaload, .ifCond .le 2, .aload 0, .getfield 13371, .iload 8, .dup2, .iaload, .sipush 1, .isub, .iastore, .aload 1, .iload 8, .iload 3, .iload 4, .iload 5, .iload 6, .invokeinterface 901 6, .goto_w 2]
def b852_2 : List Instr := [.goto 13]
def b852_3 : List Instr := [.iload 7, .sipush 100, .isub, .istore 8, .iload 2, .sipush 1, .iand, .ifCond .ne 4, .sipush 1, .goto 5]
def b852_4 : List Instr := [.sipush 0, .goto_w 5]
def b852_5 : List Instr := [.istore 9, .iload 8, .aload 0, .getfield 13315, .getfield 15360, .iadd, .istore 10, .aload 1, .dup, .getfield 14368, .sipush 1, .iadd, .putfield 14368, .aload 1, .dup, .getfield 14384, .iload 9, .ifCond .eq 6, .iload 6, .goto 7]
def b852_6 : List Instr := [.iload 5, .goto_w 7]
def b852_7 : List Instr := [.iadd, .putfield 14384, .aload 0, .aload 1, .iload 2, .sipush 1, .ixor, .sipush 2, .isub, .iload 3, .iload 4, .iload 9, .ifCond .eq 8, .iload 8, .goto 9]
def b852_8 : List Instr := [.iload 5, .goto_w 9]
def b852_9 : List Instr := [.iload 9, .ifCond .eq 10, .iload 6, .goto 11]
def b852_10 : List Instr := [.iload 8, .goto_w 11]
def b852_11 : List Instr := [.invokeinterface 852 7, .iload 9, .ifCond .eq 12, .iload 10, .iload 5, .if_icmp .ge 12, .aload 0, .aload 1, .iload 2, .iload 3, .iload 10, .iadd, .iload 4, .iload 5, .iload 10, .isub, .iload 6, .invokeinterface 852 7, .goto 13]
def b852_12 : List Instr := [.iload 9, .ifCond .ne 13, .iload 10, .iload 6, .if_icmp .ge 13, .aload 0, .aload 1, .iload 2, .iload 3, .iload 4, .iload 10, .iadd, .iload 5, .iload 6, .iload 10, .isub, .invokeinterface 852 7, .goto_w 13]
def b852_13 : List Instr := [.return_]
/-- TimberHouse$SheetTrees.walk(LTimberHouse$SheetTrees$CutSheet;IIIII)V -/
def m852 : pm_M := (fun j => [b852_0, b852_1, b852_2, b852_3, b852_4, b852_5, b852_6, b852_7, b852_8, b852_9, b852_10, b852_11, b852_12, b852_13].getD j [], fun _ => [], 13, 11)
def b853_0 : List Instr := [.aload 0, .iload 1, .invokeinterface 835 2, .astore 4, .iload 2, .aload 4, .getfield 14360, .invokeinterface 837 2, .iload 3, .sipush 4, .invokeinterface 837 2, .aload 4, .getfield 14419, .sipush 4, .iload 2, .imul, .iload 3, .iadd, .baload, .jsr 0]
/-- TimberHouse$SheetTrees.rest(III)I -/
def m853 : pm_M := (fun j => [b853_0].getD j [], fun _ => [], 13, 5)
def b854_0 : List Instr := [.aload 0, .getfield 13386, .invokeinterface 836 1, .iload 1, .aload 0, .getfield 13347, .invokeinterface 4033 1, .invokeinterface 837 2, .aload 0, .getfield 13347, .iload 1, .invokeinterface 4034 2, .checkcast 48, .getfield 49184, .jsr 0]
/-- TimberHouse$SheetTrees.left(I)I -/
def m854 : pm_M := (fun j => [b854_0].getD j [], fun _ => [], 13, 2)
def b855_0 : List Instr := [.sipush 0, .istore 1, .sipush 0, .istore 2, .goto_w 1]
def b855_1 : List Instr := [.iload 2, .aload 0, .getfield 13347, .invokeinterface 4033 1, .if_icmp .ge 2, .iload 1, .aload 0, .getfield 13347, .iload 2, .invokeinterface 4034 2, .checkcast 48, .getfield 49176, .aload 0, .getfield 13347, .iload 2, .invokeinterface 4034 2, .checkcast 48, .invokeinterface 3074 1, .imul, .iadd, .istore 1, .iinc 2 1, .goto 1]
def b855_2 : List Instr := [.sipush 0, .istore 2, .sipush 0, .istore 3, .goto_w 3]
def b855_3 : List Instr := [.iload 3, .aload 0, .getfield 13339, .invokeinterface 4033 1, .if_icmp .ge 4, .iload 2, .aload 0, .getfield 13339, .iload 3, .invokeinterface 4034 2, .checkcast 47, .invokeinterface 3008 1, .invokeinterface 3841 2, .istore 2, .iinc 3 1, .goto 3]
def b855_4 : List Instr := [.iload 2, .ifCond .ne 5, .sipush 0, .goto 6]
def b855_5 : List Instr := [.iload 1, .iload 2, .iadd, .sipush 1, .isub, .iload 2, .idiv, .goto_w 6]
def b855_6 : List Instr := [.jsr 0]
/-- TimberHouse$SheetTrees.bound()I -/
def m855 : pm_M := (fun j => [b855_0, b855_1, b855_2, b855_3, b855_4, b855_5, b855_6].getD j [], fun _ => [], 13, 4)
def b896_0 : List Instr := [.aload 0, .f2i, .aload 0, .sipush 512, .newarray .byte, .putfield 14403, .aload 0, .sipush 1280, .newarray .byte, .putfield 14411, .aload 0, .sipush 1024, .newarray .byte, .putfield 14419, .return_]
/-- TimberHouse$SheetTrees$CutSheet.<init>()V -/
def m896 : pm_M := (fun j => [b896_0].getD j [], fun _ => [], 14, 1)
def b897_0 : List Instr := [.aload 0, .getfield 14336, .aload 1, .getfield 14336, .if_icmp .ne 1, .aload 0, .getfield 14344, .aload 1, .getfield 14344, .if_icmp .ne 1, .aload 0, .getfield 14392, .aload 1, .getfield 14392, .if_icmp .ne 1, .sipush 1, .goto 2]
def b897_1 : List Instr := [.sipush 0, .goto_w 2]
def b897_2 : List Instr := [.istore 2, .sipush 0, .istore 3, .goto_w 3]
def b897_3 : List Instr := [.iload 3, .aload 0, .getfield 14392, .if_icmp .ge 6, .iload 2, .ifCond .eq 6, .aload 0, .getfield 14403, .iload 3, .baload, .aload 1, .getfield 14403, .iload 3, .baload, .if_icmp .ne 4, .sipush 1, .goto 5]
def b897_4 : List Instr := [.sipush 0, .goto_w 5]
def b897_5 : List Instr := [.istore 2, .iinc 3 1, .goto 3]
def b897_6 : List Instr := [.iload 2, .jsr 2]
/-- TimberHouse$SheetTrees$CutSheet.isLike(LTimberHouse$SheetTrees$CutSheet;)Z -/
def m897 : pm_M := (fun j => [b897_0, b897_1, b897_2, b897_3, b897_4, b897_5, b897_6].getD j [], fun _ => [], 14, 4)
def b898_0 : List Instr := [.aload 0, .iload 1, .putfield 14336, .aload 0, .iload 2, .putfield 14344, .aload 0, .sipush 0, .putfield 14352, .aload 0, .sipush 0, .putfield 14360, .aload 0, .sipush 0, .putfield 14368, .aload 0, .sipush 0, .putfield 14376, .aload 0, .sipush 0, .putfield 14384, .aload 0, .sipush 0, .putfield 14392, .return_]
/-- TimberHouse$SheetTrees$CutSheet.begin(II)V -/
def m898 : pm_M := (fun j => [b898_0].getD j [], fun _ => [], 14, 3)
def b899_0 : List Instr := [.aload 0, .getfield 14419, .sipush 4, .aload 0, .getfield 14360, .imul, .iload 1, .iload 2, .iload 3, .iload 4, .invokeinterface 900 6, .aload 0, .dup, .getfield 14360, .sipush 1, .iadd, .putfield 14360, .return_]
/-- TimberHouse$SheetTrees$CutSheet.rest(IIII)V -/
def m899 : pm_M := (fun j => [b899_0].getD j [], fun _ => [], 14, 5)
def b900_0 : List Instr := [.aload 0, .iload 1, .iload 2, .i2b, .bastore, .aload 0, .iload 1, .sipush 1, .iadd, .iload 3, .i2b, .bastore, .aload 0, .iload 1, .sipush 2, .iadd, .iload 4, .i2b, .bastore, .aload 0, .iload 1, .sipush 3, .iadd, .iload 5, .i2b, .bastore, .return_]
/-- TimberHouse$SheetTrees$CutSheet.put([BIIIII)V -/
def m900 : pm_M := (fun j => [b900_0].getD j [], fun _ => [], 0, 6)
def b901_0 : List Instr := [.aload 0, .getfield 14411, .sipush 5, .aload 0, .getfield 14352, .imul, .iload 1, .i2b, .bastore, .aload 0, .getfield 14411, .sipush 5, .aload 0, .getfield 14352, .imul, .sipush 1, .iadd, .iload 2, .iload 3, .iload 4, .iload 5, .invokeinterface 900 6, .aload 0, .dup, .getfield 14352, .sipush 1, .iadd, .putfield 14352, .aload 0, .dup, .getfield 14376, .iload 4, .iload 5, .imul, .iadd, .putfield 14376, .return_]
/-- TimberHouse$SheetTrees$CutSheet.part(IIIII)V -/
def m901 : pm_M := (fun j => [b901_0].getD j [], fun _ => [], 14, 6)
def b960_0 : List Instr := [.aload 0, .f2i, .aload 0, .sipush 8, .sipush 17, .sipush 17, .multianewarray 7 3, .putfield 15371, .aload 0, .sipush 8, .sipush 17, .sipush 17, .multianewarray 7 3, .putfield 15379, .aload 0, .sipush 8, .sipush 17, .sipush 17, .multianewarray 11 3, .putfield 15387, .aload 0, .iload 1, .putfield 15360, .return_]
/-- TimberHouse$SheetTrees$Table.<init>(I)V -/
def m960 : pm_M := (fun j => [b960_0].getD j [], fun _ => [], 15, 2)
def b961_0 : List Instr := [.sipush 0, .istore 2, .goto_w 1]
def b961_1 : List Instr := [.iload 2, .sipush 8, .if_icmp .ge 6, .sipush 1, .istore 3, .goto_w 2]
def b961_2 : List Instr := [.iload 3, .sipush 16, .if_icmp .gt 5, .sipush 1, .istore 4, .goto_w 3]
def b961_3 : List Instr := [.iload 4, .sipush 16, .if_icmp .gt 4, .aload 0, .aload 1, .iload 2, .iload 3, .iload 4, .invokeinterface 962 5, .iinc 4 1, .goto 3]
def b961_4 : List Instr := [.iinc 3 1, .goto 2]
def b961_5 : List Instr := [.iinc 2 1, .goto 1]
def b961_6 : List Instr := [.return_]
/-- TimberHouse$SheetTrees$Table.fill(Ljava/util/ArrayList;)V -/
def m961 : pm_M := (fun j => [b961_0, b961_1, b961_2, b961_3, b961_4, b961_5, b961_6].getD j [], fun _ => [], 15, 5)
def b962_0 : List Instr := [.aload 0, .iload 2, .iload 3, .iload 4, .sipush 0, .sipush 0, .sipush 0, .invokeinterface 963 7, .sipush 0, .istore 5, .goto_w 1]
def b962_1 : List Instr := [.iload 5, .aload 1, .invokeinterface 4033 1, .if_icmp .ge 3, .aload 1, .iload 5, .invokeinterface 4034 2, .checkcast 48, .astore 6, .aload 6, .getfield 49184, .ifCond .le 2, .aload 6, .iload 3, .iload 4, .invokeinterface 3073 3, .ifCond .eq 2, .aload 0, .iload 2, .iload 3, .iload 4, .aload 6, .invokeinterface 3074 1, .sipush 0, .sipush 1, .iload 5, .iadd, .invokeinterface 963 7, .goto_w 2]
def b962_2 : List Instr := [.iinc 5 1, .goto 1]
def b962_3 : List Instr := [.iload 2, .sipush 1, .iand, .ifCond .ne 4, .sipush 1, .goto 5]
def b962_4 : List Instr := [.sipush 0, .goto_w 5]
def b962_5 : List Instr := [.istore 5, .iload 5, .ifCond .eq 6, .iload 3, .goto 7]
def b962_6 : List Instr := [.iload 4, .goto_w 7]
def b962_7 : List Instr := [.istore 6, .iload 2, .sipush 1, .ixor, .sipush 2, .isub, .istore 7, .sipush 1, .istore 8, .goto_w 8]
def b962_8 : List Instr := [.iload 8, .iload 6, .if_icmp .ge 18, .iload 2, .sipush 1, .if_icmp .le 18, .iload 6, .iload 8, .isub, .aload 0, .getfield 15360, .isub, .istore 9, .iload 5, .ifCond .eq 9, .aload 0, .getfield 15371, .iload 7, .aaload, .iload 8, .aaload, .iload 4, .iaload, .goto 10]
def b962_9 : List Instr := [.aload 0, .getfield 15371, .iload 7, .aaload, .iload 3, .aaload, .iload 8, .iaload, .goto_w 10]
def b962_10 : List Instr := [.istore 10, .sipush 1, .iload 5, .ifCond .eq 11, .aload 0, .getfield 15379, .iload 7, .aaload, .iload 8, .aaload, .iload 4, .iaload, .goto 12]
def b962_11 : List Instr := [.aload 0, .getfield 15379, .iload 7, .aaload, .iload 3, .aaload, .iload 8, .iaload, .goto_w 12]
def b962_12 : List Instr := [.iadd, .istore 11, .iload 9, .ifCond .le 17, .iload 10, .iload 5, .ifCond .eq 13, .aload 0, .getfield 15371, .iload 2, .aaload, .iload 9, .aaload, .iload 4, .iaload, .goto 14]
def b962_13 : List Instr := [.aload 0, .getfield 15371, .iload 2, .aaload, .iload 3, .aaload, .iload 9, .iaload, .goto_w 14]
def b962_14 : List Instr := [.iadd, .istore 10, .iload 11, .iload 5, .ifCond .eq 15, .aload 0, .getfield 15379, .iload 2, .aaload, .iload 9, .aaload, .iload 4, .iaload, .goto 16]
def b962_15 : List Instr := [.aload 0, .getfield 15379, .iload 2, .aaload, .iload 3, .aaload, .iload 9, .iaload, .goto_w 16]
def b962_16 : List Instr := [.iadd, .istore 11, .goto_w 17]
def b962_17 : List Instr := [.aload 0, .iload 2, .iload 3, .iload 4, .iload 10, .iload 11, .sipush 100, .iload 8, .iadd, .invokeinterface 963 7, .iinc 8 1, .goto 8]
def b962_18 : List Instr := [.return_]
/-- TimberHouse$SheetTrees$Table.choose(Ljava/util/ArrayList;III)V -/
def m962 : pm_M := (fun j => [b962_0, b962_1, b962_2, b962_3, b962_4, b962_5, b962_6, b962_7, b962_8, b962_9, b962_10, b962_11, b962_12, b962_13, b962_14, b962_15, b962_16, b962_17, b962_18].getD j [], fun _ => [], 15, 12)
def b963_0 : List Instr := [.iload 4, .aload 0, .getfield 15371, .iload 1, .aaload, .iload 2, .aaload, .iload 3, .iaload, .if_icmp .gt 1, .iload 4, .aload 0, .getfield 15371, .iload 1, .aaload, .iload 2, .aaload, .iload 3, .iaload, .if_icmp .ne 2, .iload 5, .aload 0, .getfield 15379, .iload 1, .aaload, .iload 2, .aaload, .iload 3, .iaload, .if_icmp .ge 2, .goto_w 1]
def b963_1 : List Instr := [.sipush 1, .goto 3]
def b963_2 : List Instr := [.sipush 0, .goto_w 3]
def b963_3 : List Instr := [.istore 7, .iload 6, .ifCond .eq 4, .iload 7, .ifCond .eq 5, .goto_w 4]
def b963_4 : List Instr := [.aload 0, .getfield 15371, .iload 1, .aaload, .iload 2, .aaload, .iload 3, .iload 4, .iastore, .aload 0, .getfield 15379, .iload 1, .aaload, .iload 2, .aaload, .iload 3, .iload 5, .iastore, .aload 0, .getfield 15387, .iload 1, .aaload, .iload 2, .aaload, .iload 3, .iload 6, .i2b, .bastore, .goto_w 5]
def b963_5 : List Instr := [.return_]
/-- TimberHouse$SheetTrees$Table.take(IIIIII)V -/
def m963 : pm_M := (fun j => [b963_0, b963_1, b963_2, b963_3, b963_4, b963_5].getD j [], fun _ => [], 15, 8)
def b964_0 : List Instr := [.sipush 2, .iload 0, .imul, .iload 1, .iadd, .jsr 0]
/-- TimberHouse$SheetTrees$Table.of(II)I -/
def m964 : pm_M := (fun j => [b964_0].getD j [], fun _ => [], 0, 2)
def b965_0 : List Instr := [.aload 0, .getfield 15371, .iload 1, .aaload, .iload 3, .aaload, .iload 4, .iaload, .aload 0, .getfield 15371, .iload 2, .aaload, .iload 3, .aaload, .iload 4, .iaload, .if_icmp .gt 1, .aload 0, .getfield 15371, .iload 1, .aaload, .iload 3, .aaload, .iload 4, .iaload, .aload 0, .getfield 15371, .iload 2, .aaload, .iload 3, .aaload, .iload 4, .iaload, .if_icmp .ne 2, .aload 0, .getfield 15379, .iload 1, .aaload, .iload 3, .aaload, .iload 4, .iaload, .aload 0, .getfield 15379, .iload 2, .aaload, .iload 3, .aaload, .iload 4, .iaload, .if_icmp .ge 2, .goto_w 1]
def b965_1 : List Instr := [.sipush 1, .goto 3]
def b965_2 : List Instr := [.sipush 0, .goto_w 3]
def b965_3 : List Instr := [.jsr 2]
/-- TimberHouse$SheetTrees$Table.isBetter(IIII)Z -/
def m965 : pm_M := (fun j => [b965_0, b965_1, b965_2, b965_3].getD j [], fun _ => [], 15, 5)
def b1024_0 : List Instr := [.aload 0, .f2i, .aload 0, .sipush 4, .anewarray 8, .dup, .sipush 0, .new 17, .dup, .invokeinterface 1088 1, .aastore, .dup, .sipush 1, .new 17, .dup, .invokeinterface 1088 1, .aastore, .dup, .sipush 2, .new 17, .dup, .invokeinterface 1088 1, .aastore, .dup, .sipush 3, .new 17, .dup, .invokeinterface 1088 1, .aastore, .putfield 16395, .aload 0, .sipush 240, .newarray .byte, .putfield 16411, .aload 0, .sipush 32, .anewarray 9, .putfield 16443, .aload 0, .sipush 32, .anewarray 9, .putfield 16451, .aload 0, .sipush (-1), .putfield 16464, .aload 0, .new 18, .dup, .sipush 2, .sipush 20, .iload 1, .invokeinterface 3840 2, .invokeinterface 3841 2, .invokeinterface 1152 2, .putfield 16387, .aload 0, .new 19, .dup, .aload 0, .getfield 16387, .aload 0, .getfield 16395, .invokeinterface 1216 3, .putfield 16403, .return_]
/-- TimberHouse$RouterPaths.<init>(I)V -/
def m1024 : pm_M := (fun j => [b1024_0].getD j [], fun _ => [], 16, 2)
def b1025_0 : List Instr := [.iload 1, .sipush 32, .sipush 126, .invokeinterface 1026 3, .ifCond .eq 1, .aload 0, .getfield 16416, .sipush 240, .if_icmp .ne 2, .goto_w 1]
def b1025_1 : List Instr := [.sipush 0, .jsr 2]
def b1025_2 : List Instr := [.aload 0, .getfield 16411, .aload 0, .dup, .getfield 16416, .dup_x1, .sipush 1, .iadd, .putfield 16416, .iload 1, .i2b, .bastore, .sipush 1, .jsr 2]
/-- TimberHouse$RouterPaths.unit(I)Z -/
def m1025 : pm_M := (fun j => [b1025_0, b1025_1, b1025_2].getD j [], fun _ => [], 16, 2)
def b1026_0 : List Instr := [.iload 0, .iload 1, .if_icmp .lt 1, .iload 0, .iload 2, .if_icmp .gt 1, .sipush 1, .goto 2]
def b1026_1 : List Instr := [.sipush 0, .goto_w 2]
def b1026_2 : List Instr := [.jsr 2]
/-- TimberHouse$RouterPaths.isIn(III)Z -/
def m1026 : pm_M := (fun j => [b1026_0, b1026_1, b1026_2].getD j [], fun _ => [], 0, 3)
def b1027_0 : List Instr := [.aload 0, .getfield 16387, .iload 1, .iload 2, .invokeinterface 1155 3, .ifCond .eq 1, .aload 0, .getfield 16387, .iload 3, .iload 4, .invokeinterface 1155 3, .ifCond .eq 1, .sipush 1, .goto 2]
def b1027_1 : List Instr := [.sipush 0, .goto_w 2]
def b1027_2 : List Instr := [.invokeinterface 1028 1, .iload 1, .iload 3, .if_icmp .gt 3, .iload 2, .iload 4, .if_icmp .gt 3, .iload 5, .sipush 0, .sipush 100, .invokeinterface 1026 3, .ifCond .eq 3, .sipush 1, .goto 4]
def b1027_3 : List Instr := [.sipush 0, .goto_w 4]
def b1027_4 : List Instr := [.invokeinterface 1029 1, .iload 2, .istore 6, .goto_w 5]
def b1027_5 : List Instr := [.iload 6, .iload 4, .if_icmp .gt 8, .iload 1, .istore 7, .goto_w 6]
def b1027_6 : List Instr := [.iload 7, .iload 3, .if_icmp .gt 7, .aload 0, .getfield 16387, .getfield 18451, .iload 6, .aaload, .iload 7, .iload 5, .iastore, .iinc 7 1, .goto 6]
def b1027_7 : List Instr := [.iinc 6 1, .goto 5]
def b1027_8 : List Instr := [.return_]
/-- TimberHouse$RouterPaths.target(IIIII)V -/
def m1027 : pm_M := (fun j => [b1027_0, b1027_1, b1027_2, b1027_3, b1027_4, b1027_5, b1027_6, b1027_7, b1027_8].getD j [], fun _ => [], 16, 8)
def b1028_0 : List Instr := [.iload 0, .ifCond .ne 1, .ret 67, .athrow]
def b1028_1 : List Instr := [.return_]
/-- TimberHouse$RouterPaths.there(Z)V -/
def m1028 : pm_M := (fun j => [b1028_0, b1028_1].getD j [], fun _ => [], 0, 1)
def b1029_0 : List Instr := [.iload 0, .ifCond .ne 1, .ret 70, .athrow]
def b1029_1 : List Instr := [.return_]
/-- TimberHouse$RouterPaths.proper(Z)V -/
def m1029 : pm_M := (fun j => [b1029_0, b1029_1].getD j [], fun _ => [], 0, 1)
def b1030_0 : List Instr := [.aload 0, .getfield 16387, .iload 1, .iload 2, .invokeinterface 1155 3, .ifCond .eq 1, .aload 0, .getfield 16387, .iload 3, .iload 4, .invokeinterface 1155 3, .ifCond .eq 1, .sipush 1, .goto 2]
def b1030_1 : List Instr := [.sipush 0, .goto_w 2]
def b1030_2 : List Instr := [.invokeinterface 1028 1, .iload 1, .iload 3, .if_icmp .gt 3, .iload 2, .iload 4, .if_icmp .gt 3, .sipush 1, .goto 4]
def b1030_3 : List Instr := [.sipush 0, .goto_w 4]
def b1030_4 : List Instr := [.invokeinterface 1029 1, .iload 2, .istore 6, .goto_w 5]
def b1030_5 : List Instr := [.iload 6, .iload 4, .if_icmp .gt 8, .iload 1, .istore 7, .goto_w 6]
def b1030_6 : List Instr := [.iload 7, .iload 3, .if_icmp .gt 7, .aload 0, .getfield 16387, .getfield 18459, .iload 6, .aaload, .iload 7, .iload 5, .bastore, .iinc 7 1, .goto 6]
def b1030_7 : List Instr := [.iinc 6 1, .goto 5]
def b1030_8 : List Instr := [.return_]
/-- TimberHouse$RouterPaths.keep(IIIIZ)V -/
def m1030 : pm_M := (fun j => [b1030_0, b1030_1, b1030_2, b1030_3, b1030_4, b1030_5, b1030_6, b1030_7, b1030_8].getD j [], fun _ => [], 16, 8)
def b1031_0 : List Instr := [.iload 1, .sipush 0, .sipush 3, .invokeinterface 1026 3, .invokeinterface 1028 1, .iload 2, .sipush 0, .sipush 6, .invokeinterface 1026 3, .ifCond .eq 1, .iload 3, .sipush 1, .sipush 10, .invokeinterface 1026 3, .ifCond .eq 1, .sipush 1, .goto 2]
def b1031_1 : List Instr := [.sipush 0, .goto_w 2]
def b1031_2 : List Instr := [.invokeinterface 1029 1, .aload 0, .getfield 16395, .iload 1, .aaload, .iload 2, .putfield 17408, .aload 0, .getfield 16395, .iload 1, .aaload, .iload 3, .putfield 17416, .return_]
/-- TimberHouse$RouterPaths.tool(III)V -/
def m1031 : pm_M := (fun j => [b1031_0, b1031_1, b1031_2].getD j [], fun _ => [], 16, 4)
def b1032_0 : List Instr := [.sipush 0, .istore 1, .aload 0, .sipush 0, .putfield 16424, .goto_w 1]
def b1032_1 : List Instr := [.aload 0, .iload 1, .sipush 32, .if_icmp .ge 2, .sipush 1, .goto 3]
def b1032_2 : List Instr := [.sipush 0, .goto_w 3]
def b1032_3 : List Instr := [.aload 0, .getfield 16424, .invokeinterface 1033 3, .aload 0, .getfield 16443, .iload 1, .iinc 1 1, .aload 0, .invokeinterface 1034 1, .aastore, .aload 0, .aload 0, .invokeinterface 1035 1, .sipush 59, .if_icmp .ne 4, .sipush 1, .goto 5]
def b1032_4 : List Instr := [.sipush 0, .goto_w 5]
def b1032_5 : List Instr := [.aload 0, .getfield 16424, .invokeinterface 1033 3, .aload 0, .dup, .getfield 16424, .sipush 1, .iadd, .putfield 16424, .aload 0, .getfield 16424, .aload 0, .getfield 16416, .if_icmp .lt 1, .goto_w 6]
def b1032_6 : List Instr := [.goto 8]
def b1032_7 : List Instr := [.aload 0, .sipush 0, .putfield 16416, .sipush (-1), .aload 0, .getfield 16432, .isub, .jsr 0]
def b1032_8 : List Instr := [.aload 0, .sipush 0, .putfield 16416, .aload 0, .iload 1, .putfield 16456, .sipush 0, .istore 2, .goto_w 9]
def b1032_9 : List Instr := [.iload 2, .iload 1, .if_icmp .ge 10, .aload 0, .getfield 16451, .iload 2, .aload 0, .getfield 16443, .iload 2, .aaload, .aastore, .iinc 2 1, .goto 9]
def b1032_10 : List Instr := [.iload 1, .jsr 0]
/-- TimberHouse$RouterPaths.read()I -/
def m1032 : pm_M := (fun j => [b1032_0, b1032_1, b1032_2, b1032_3, b1032_4, b1032_5, b1032_6, b1032_7, b1032_8, b1032_9, b1032_10].getD j [], fun j => [[], [([71], 7, 2)], [([71], 7, 2)], [([71], 7, 2)], [([71], 7, 2)], [([71], 7, 2)], [], [], [], [], []].getD j [], 16, 3)
def b1033_0 : List Instr := [.iload 1, .ifCond .ne 1, .aload 0, .iload 2, .putfield 16432, .ret 71, .athrow]
def b1033_1 : List Instr := [.return_]
/-- TimberHouse$RouterPaths.need(ZI)V -/
def m1033 : pm_M := (fun j => [b1033_0, b1033_1].getD j [], fun _ => [], 16, 3)
def b1034_0 : List Instr := [.aload 0, .invokeinterface 1035 1, .istore 1, .aload 0, .iload 1, .sipush 84, .if_icmp .eq 1, .iload 1, .sipush 71, .if_icmp .ne 2, .goto_w 1]
def b1034_1 : List Instr := [.sipush 1, .goto 3]
def b1034_2 : List Instr := [.sipush 0, .goto_w 3]
def b1034_3 : List Instr := [.aload 0, .getfield 16424, .invokeinterface 1033 3, .aload 0, .dup, .getfield 16424, .sipush 1, .iadd, .putfield 16424, .iload 1, .sipush 84, .if_icmp .ne 4, .new 50, .dup, .aload 0, .sipush 3, .invokeinterface 1037 2, .invokeinterface 3200 2, .areturn]
def b1034_4 : List Instr := [.new 51, .dup, .aload 0, .sipush 1, .invokeinterface 1037 2, .sipush 1, .if_icmp .ne 5, .sipush 1, .goto 6]
def b1034_5 : List Instr := [.sipush 0, .goto_w 6]
def b1034_6 : List Instr := [.invokeinterface 3264 2, .astore 2, .sipush 0, .istore 3, .aload 0, .invokeinterface 1035 1, .istore 4, .goto_w 7]
def b1034_7 : List Instr := [.iload 4, .sipush 88, .iload 3, .iadd, .if_icmp .lt 10, .iload 4, .sipush 90, .if_icmp .gt 10, .aload 0, .dup, .getfield 16424, .sipush 1, .iadd, .putfield 16424, .aload 2, .getfield 52235, .iload 4, .sipush 88, .isub, .aload 0, .iload 4, .sipush 90, .if_icmp .ne 8, .sipush 100, .goto 9]
def b1034_8 : List Instr := [.aload 0, .getfield 16387, .getfield 18432, .sipush 1, .isub, .goto_w 9]
def b1034_9 : List Instr := [.invokeinterface 1038 2, .iastore, .iload 4, .sipush 88, .isub, .sipush 1, .iadd, .istore 3, .aload 0, .invokeinterface 1035 1, .istore 4, .goto 7]
def b1034_10 : List Instr := [.aload 0, .iload 3, .ifCond .le 11, .sipush 1, .goto 12]
def b1034_11 : List Instr := [.sipush 0, .goto_w 12]
def b1034_12 : List Instr := [.aload 0, .getfield 16424, .invokeinterface 1033 3, .aload 2, .areturn]
/-- TimberHouse$RouterPaths.statement()LTimberHouse$RouterPaths$Statement; -/
def m1034 : pm_M := (fun j => [b1034_0, b1034_1, b1034_2, b1034_3, b1034_4, b1034_5, b1034_6, b1034_7, b1034_8, b1034_9, b1034_10, b1034_11, b1034_12].getD j [], fun _ => [], 16, 5)
def b1035_0 : List Instr := [.aload 0, .invokeinterface 1036 1, .sipush 32, .if_icmp .ne 1, .aload 0, .dup, .getfield 16424, .sipush 1, .iadd, .putfield 16424, .goto 0]
def b1035_1 : List Instr := [.aload 0, .invokeinterface 1036 1, .jsr 4]
/-- TimberHouse$RouterPaths.lookBehindSpaces()C -/
def m1035 : pm_M := (fun j => [b1035_0, b1035_1].getD j [], fun _ => [], 16, 1)
def b1036_0 : List Instr := [.aload 0, .getfield 16424, .aload 0, .getfield 16416, .if_icmp .ge 1, .aload 0, .getfield 16411, .aload 0, .getfield 16424, .baload, .i2c, .goto 2]
def b1036_1 : List Instr := [.sipush 0, .goto_w 2]
def b1036_2 : List Instr := [.jsr 4]
/-- TimberHouse$RouterPaths.look()C -/
def m1036 : pm_M := (fun j => [b1036_0, b1036_1, b1036_2].getD j [], fun _ => [], 16, 1)
def b1037_0 : List Instr := [.aload 0, .invokeinterface 1036 1, .istore 2, .aload 0, .iload 2, .sipush 48, .if_icmp .lt 1, .iload 2, .sipush 48, .iload 1, .iadd, .if_icmp .gt 1, .sipush 1, .goto 2]
def b1037_1 : List Instr := [.sipush 0, .goto_w 2]
def b1037_2 : List Instr := [.aload 0, .getfield 16424, .invokeinterface 1033 3, .aload 0, .dup, .getfield 16424, .sipush 1, .iadd, .putfield 16424, .iload 2, .sipush 48, .isub, .jsr 0]
/-- TimberHouse$RouterPaths.digit(I)I -/
def m1037 : pm_M := (fun j => [b1037_0, b1037_1, b1037_2].getD j [], fun _ => [], 16, 3)
def b1038_0 : List Instr := [.aload 0, .getfield 16424, .istore 2, .aload 0, .sipush 9, .invokeinterface 1037 2, .istore 3, .sipush 0, .istore 4, .goto_w 1]
def b1038_1 : List Instr := [.iload 4, .sipush 2, .if_icmp .ge 2, .aload 0, .invokeinterface 1036 1, .sipush 48, .if_icmp .lt 2, .aload 0, .invokeinterface 1036 1, .sipush 57, .if_icmp .gt 2, .sipush 10, .iload 3, .imul, .aload 0, .sipush 9, .invokeinterface 1037 2, .iadd, .istore 3, .iinc 4 1, .goto 1]
def b1038_2 : List Instr := [.aload 0, .iload 3, .iload 1, .if_icmp .gt 3, .sipush 1, .goto 4]
def b1038_3 : List Instr := [.sipush 0, .goto_w 4]
def b1038_4 : List Instr := [.iload 2, .invokeinterface 1033 3, .iload 3, .jsr 0]
/-- TimberHouse$RouterPaths.number(I)I -/
def m1038 : pm_M := (fun j => [b1038_0, b1038_1, b1038_2, b1038_3, b1038_4].getD j [], fun _ => [], 16, 5)
def b1039_0 : List Instr := [.aload 0, .getfield 16456, .ifCond .le 1, .sipush 1, .goto 2]
def b1039_1 : List Instr := [.sipush 0, .goto_w 2]
def b1039_2 : List Instr := [.invokeinterface 1040 1, .aload 0, .getfield 16403, .invokeinterface 1217 1, .aload 0, .sipush 0, .putfield 16464, .goto_w 3]
def b1039_3 : List Instr := [.aload 0, .getfield 16464, .aload 0, .getfield 16456, .if_icmp .ge 4, .aload 0, .getfield 16451, .aload 0, .getfield 16464, .aaload, .aload 0, .getfield 16403, .invokedynamic 18, .aload 0, .dup, .getfield 16464, .sipush 1, .iadd, .putfield 16464, .goto 3]
def b1039_4 : List Instr := [.goto 6]
def b1039_5 : List Instr := [.aload 0, .getfield 16403, .getfield 19520, .jsr 0]
def b1039_6 : List Instr := [.sipush 0, .jsr 0]
/-- TimberHouse$RouterPaths.run()I -/
def m1039 : pm_M := (fun j => [b1039_0, b1039_1, b1039_2, b1039_3, b1039_4, b1039_5, b1039_6].getD j [], fun j => [[], [], [], [([71], 5, 1)], [], [], []].getD j [], 16, 2)
def b1040_0 : List Instr := [.iload 0, .ifCond .ne 1, .ret 71, .athrow]
def b1040_1 : List Instr := [.return_]
/-- TimberHouse$RouterPaths.can(Z)V -/
def m1040 : pm_M := (fun j => [b1040_0, b1040_1].getD j [], fun _ => [], 0, 1)
def b1041_0 : List Instr := [.iload 1, .sipush 0, .sipush 5, .invokeinterface 1026 3, .invokeinterface 1028 1, .aload 0, .getfield 16464, .sipush (-1), .if_icmp .eq 1, .sipush 1, .goto 2]
def b1041_1 : List Instr := [.sipush 0, .goto_w 2]
def b1041_2 : List Instr := [.invokeinterface 1040 1, .iload 1, .tableswitch 8 0 4 #[3, 4, 5, 6, 7]]
def b1041_3 : List Instr := [.aload 0, .getfield 16403, .getfield 19504, .goto 9]
def b1041_4 : List Instr := [.aload 0, .getfield 16464, .goto 9]
def b1041_5 : List Instr := [.aload 0, .getfield 16403, .getfield 19472, .goto 9]
def b1041_6 : List Instr := [.aload 0, .getfield 16403, .getfield 19480, .goto 9]
def b1041_7 : List Instr := [.aload 0, .getfield 16403, .getfield 19488, .goto 9]
def b1041_8 : List Instr := [.aload 0, .getfield 16403, .getfield 19512, .goto_w 9]
def b1041_9 : List Instr := [.jsr 0]
/-- TimberHouse$RouterPaths.about(I)I -/
def m1041 : pm_M := (fun j => [b1041_0, b1041_1, b1041_2, b1041_3, b1041_4, b1041_5, b1041_6, b1041_7, b1041_8, b1041_9].getD j [], fun _ => [], 16, 2)
def b1042_0 : List Instr := [.aload 0, .getfield 16387, .iload 1, .iload 2, .invokeinterface 1155 3, .ifCond .eq 1, .iload 3, .sipush 0, .sipush 2, .invokeinterface 1026 3, .ifCond .eq 1, .sipush 1, .goto 2]
def b1042_1 : List Instr := [.sipush 0, .goto_w 2]
def b1042_2 : List Instr := [.invokeinterface 1028 1, .iload 3, .ifCond .ne 3, .aload 0, .getfield 16387, .getfield 18443, .iload 2, .aaload, .iload 1, .iaload, .goto 6]
def b1042_3 : List Instr := [.iload 3, .sipush 1, .if_icmp .ne 4, .aload 0, .getfield 16387, .getfield 18451, .iload 2, .aaload, .iload 1, .iaload, .goto 6]
def b1042_4 : List Instr := [.aload 0, .getfield 16387, .getfield 18459, .iload 2, .aaload, .iload 1, .baload, .ifCond .eq 5, .sipush 1, .goto 6]
def b1042_5 : List Instr := [.sipush 0, .goto_w 6]
def b1042_6 : List Instr := [.jsr 0]
/-- TimberHouse$RouterPaths.cell(III)I -/
def m1042 : pm_M := (fun j => [b1042_0, b1042_1, b1042_2, b1042_3, b1042_4, b1042_5, b1042_6].getD j [], fun _ => [], 16, 4)
def b1043_0 : List Instr := [.iload 1, .sipush 0, .sipush 3, .invokeinterface 1026 3, .invokeinterface 1028 1, .sipush 0, .istore 2, .sipush (-1), .istore 3, .aload 0, .getfield 16387, .getfield 18432, .aload 0, .getfield 16387, .getfield 18432, .imul, .sipush 1, .isub, .istore 4, .goto_w 1]
def b1043_1 : List Instr := [.iload 4, .ifCond .lt 10, .aload 0, .getfield 16387, .getfield 18443, .iload 4, .aload 0, .getfield 16387, .getfield 18432, .idiv, .aaload, .iload 4, .aload 0, .getfield 16387, .getfield 18432, .irem, .iaload, .aload 0, .getfield 16387, .getfield 18451, .iload 4, .aload 0, .getfield 16387, .getfield 18432, .idiv, .aaload, .iload 4, .aload 0, .getfield 16387, .getfield 18432, .irem, .iaload, .isub, .istore 5, .iload 1, .sipush 1, .iand, .ifCond .ne 3, .iload 5, .ifCond .le 2, .sipush 1, .goto 5]
def b1043_2 : List Instr := [.sipush 0, .goto 5]
def b1043_3 : List Instr := [.iload 5, .ifCond .ge 4, .sipush 1, .goto 5]
def b1043_4 : List Instr := [.sipush 0, .goto_w 5]
def b1043_5 : List Instr := [.istore 6, .iload 2, .iload 6, .ifCond .eq 6, .sipush 1, .goto 7]
def b1043_6 : List Instr := [.sipush 0, .goto_w 7]
def b1043_7 : List Instr := [.iadd, .istore 2, .iload 6, .ifCond .eq 8, .iload 4, .goto 9]
def b1043_8 : List Instr := [.iload 3, .goto_w 9]
def b1043_9 : List Instr := [.istore 3, .iinc 4 (-1), .goto 1]
def b1043_10 : List Instr := [.iload 1, .sipush 2, .if_icmp .ge 11, .iload 2, .goto 12]
def b1043_11 : List Instr := [.iload 3, .goto_w 12]
def b1043_12 : List Instr := [.jsr 0]
/-- TimberHouse$RouterPaths.check(I)I -/
def m1043 : pm_M := (fun j => [b1043_0, b1043_1, b1043_2, b1043_3, b1043_4, b1043_5, b1043_6, b1043_7, b1043_8, b1043_9, b1043_10, b1043_11, b1043_12].getD j [], fun _ => [], 16, 7)
def b1044_0 : List Instr := [.iload 1, .sipush 0, .sipush 3, .invokeinterface 1026 3, .invokeinterface 1028 1, .sipush 0, .istore 2, .sipush 0, .istore 3, .goto_w 1]
def b1044_1 : List Instr := [.iload 3, .aload 0, .getfield 16387, .getfield 18432, .if_icmp .ge 6, .sipush 0, .istore 4, .goto_w 2]
def b1044_2 : List Instr := [.iload 4, .aload 0, .getfield 16387, .getfield 18432, .if_icmp .ge 5, .iload 2, .aload 0, .getfield 16387, .getfield 18443, .iload 3, .aaload, .iload 4, .iaload, .aload 0, .getfield 16387, .getfield 18451, .iload 3, .aaload, .iload 4, .iaload, .if_icmp .le 3, .aload 0, .getfield 16387, .aload 0, .getfield 16395, .iload 1, .aaload, .iload 4, .iload 3, .invokeinterface 1156 4, .ifCond .eq 3, .sipush 1, .goto 4]
def b1044_3 : List Instr := [.sipush 0, .goto_w 4]
def b1044_4 : List Instr := [.iadd, .istore 2, .iinc 4 1, .goto 2]
def b1044_5 : List Instr := [.iinc 3 1, .goto 1]
def b1044_6 : List Instr := [.iload 2, .jsr 0]
/-- TimberHouse$RouterPaths.reached(I)I -/
def m1044 : pm_M := (fun j => [b1044_0, b1044_1, b1044_2, b1044_3, b1044_4, b1044_5, b1044_6].getD j [], fun _ => [], 16, 5)
def b1045_0 : List Instr := [.aload 0, .getfield 16387, .invokeinterface 1158 1, .jsr 0]
/-- TimberHouse$RouterPaths.pieces()I -/
def m1045 : pm_M := (fun j => [b1045_0].getD j [], fun _ => [], 16, 1)
def b1046_0 : List Instr := [.aload 0, .getfield 16387, .invokeinterface 1153 1, .return_]
/-- TimberHouse$RouterPaths.blank()V -/
def m1046 : pm_M := (fun j => [b1046_0].getD j [], fun _ => [], 16, 1)
def b1088_0 : List Instr := [.aload 0, .f2i, .aload 0, .sipush 1, .putfield 17416, .return_]
/-- TimberHouse$RouterPaths$Tool.<init>()V -/
def m1088 : pm_M := (fun j => [b1088_0].getD j [], fun _ => [], 17, 1)
def b1089_0 : List Instr := [.iload 1, .iload 1, .imul, .iload 2, .iload 2, .imul, .iadd, .aload 0, .getfield 17408, .aload 0, .getfield 17408, .imul, .if_icmp .gt 1, .sipush 1, .goto 2]
def b1089_1 : List Instr := [.sipush 0, .goto_w 2]
def b1089_2 : List Instr := [.jsr 2]
/-- TimberHouse$RouterPaths$Tool.covers(II)Z -/
def m1089 : pm_M := (fun j => [b1089_0, b1089_1, b1089_2].getD j [], fun _ => [], 17, 3)
def b1152_0 : List Instr := [.aload 0, .f2i, .aload 0, .iload 1, .putfield 18432, .aload 0, .iload 1, .iload 1, .multianewarray 7 2, .putfield 18443, .aload 0, .iload 1, .iload 1, .multianewarray 7 2, .putfield 18451, .aload 0, .iload 1, .iload 1, .multianewarray 3 2, .putfield 18459, .aload 0, .iload 1, .iload 1, .imul, .newarray .int, .putfield 18467, .aload 0, .iload 1, .iload 1, .imul, .newarray .boolean, .putfield 18475, .aload 0, .invokeinterface 1153 1, .aload 0, .getfield 18451, .astore 2, .aload 2, .arraylength, .istore 3, .sipush 0, .istore 4, .goto_w 1]
def b1152_1 : List Instr := [.iload 4, .iload 3, .if_icmp .ge 2, .aload 2, .iload 4, .aaload, .astore 5, .aload 5, .invokeinterface 1154 1, .iinc 4 1, .goto 1]
def b1152_2 : List Instr := [.return_]
/-- TimberHouse$RouterPaths$Grid.<init>(I)V -/
def m1152 : pm_M := (fun j => [b1152_0, b1152_1, b1152_2].getD j [], fun _ => [], 18, 6)
def b1153_0 : List Instr := [.aload 0, .getfield 18443, .astore 1, .aload 1, .arraylength, .istore 2, .sipush 0, .istore 3, .goto_w 1]
def b1153_1 : List Instr := [.iload 3, .iload 2, .if_icmp .ge 2, .aload 1, .iload 3, .aaload, .astore 4, .aload 4, .invokeinterface 1154 1, .iinc 3 1, .goto 1]
def b1153_2 : List Instr := [.return_]
/-- TimberHouse$RouterPaths$Grid.blank()V -/
def m1153 : pm_M := (fun j => [b1153_0, b1153_1, b1153_2].getD j [], fun _ => [], 18, 5)
def b1154_0 : List Instr := [.sipush 0, .istore 1, .goto_w 1]
def b1154_1 : List Instr := [.iload 1, .aload 0, .arraylength, .if_icmp .ge 2, .aload 0, .iload 1, .sipush 100, .iastore, .iinc 1 1, .goto 1]
def b1154_2 : List Instr := [.return_]
/-- TimberHouse$RouterPaths$Grid.fill([I)V -/
def m1154 : pm_M := (fun j => [b1154_0, b1154_1, b1154_2].getD j [], fun _ => [], 0, 2)
def b1155_0 : List Instr := [.iload 1, .ifCond .lt 1, .iload 1, .aload 0, .getfield 18432, .if_icmp .ge 1, .iload 2, .ifCond .lt 1, .iload 2, .aload 0, .getfield 18432, .if_icmp .ge 1, .sipush 1, .goto 2]
def b1155_1 : List Instr := [.sipush 0, .goto_w 2]
def b1155_2 : List Instr := [.jsr 2]
/-- TimberHouse$RouterPaths$Grid.has(II)Z -/
def m1155 : pm_M := (fun j => [b1155_0, b1155_1, b1155_2].getD j [], fun _ => [], 18, 3)
def b1156_0 : List Instr := [.sipush 0, .istore 4, .aload 1, .getfield 17408, .ineg, .istore 5, .goto_w 1]
def b1156_1 : List Instr := [.iload 5, .aload 1, .getfield 17408, .if_icmp .gt 6, .iload 4, .ifCond .ne 6, .aload 1, .getfield 17408, .ineg, .istore 6, .goto_w 2]
def b1156_2 : List Instr := [.iload 6, .aload 1, .getfield 17408, .if_icmp .gt 5, .iload 4, .ifCond .ne 5, .aload 1, .iload 6, .iload 5, .invokeinterface 1089 3, .ifCond .eq 3, .aload 0, .iload 2, .iload 6, .iadd, .iload 3, .iload 5, .iadd, .invokeinterface 1155 3, .ifCond .eq 3, .aload 0, .aload 1, .iload 2, .iload 6, .iadd, .iload 3, .iload 5, .iadd, .aload 0, .getfield 18451, .iload 3, .aaload, .iload 2, .iaload, .invokeinterface 1157 5, .ifCond .eq 3, .sipush 1, .goto 4]
def b1156_3 : List Instr := [.sipush 0, .goto_w 4]
def b1156_4 : List Instr := [.istore 4, .iinc 6 1, .goto 2]
def b1156_5 : List Instr := [.iinc 5 1, .goto 1]
def b1156_6 : List Instr := [.iload 4, .jsr 2]
/-- TimberHouse$RouterPaths$Grid.reaches(LTimberHouse$RouterPaths$Tool;II)Z -/
def m1156 : pm_M := (fun j => [b1156_0, b1156_1, b1156_2, b1156_3, b1156_4, b1156_5, b1156_6].getD j [], fun _ => [], 18, 7)
def b1157_0 : List Instr := [.aload 1, .getfield 17408, .ineg, .istore 5, .goto_w 1]
def b1157_1 : List Instr := [.iload 5, .aload 1, .getfield 17408, .if_icmp .gt 7, .aload 1, .getfield 17408, .ineg, .istore 6, .goto_w 2]
def b1157_2 : List Instr := [.iload 6, .aload 1, .getfield 17408, .if_icmp .gt 6, .aload 1, .iload 6, .iload 5, .invokeinterface 1089 3, .ifCond .eq 5, .aload 0, .iload 2, .iload 6, .iadd, .iload 3, .iload 5, .iadd, .invokeinterface 1155 3, .ifCond .ne 3, .goto 5]
def b1157_3 : List Instr := [.aload 0, .getfield 18451, .iload 3, .iload 5, .iadd, .aaload, .iload 2, .iload 6, .iadd, .iaload, .iload 4, .if_icmp .gt 4, .aload 0, .getfield 18459, .iload 3, .iload 5, .iadd, .aaload, .iload 2, .iload 6, .iadd, .baload, .ifCond .eq 5, .goto_w 4]
def b1157_4 : List Instr := [.sipush 0, .jsr 2]
def b1157_5 : List Instr := [.iinc 6 1, .goto 2]
def b1157_6 : List Instr := [.iinc 5 1, .goto 1]
def b1157_7 : List Instr := [.sipush 1, .jsr 2]
/-- TimberHouse$RouterPaths$Grid.allows(LTimberHouse$RouterPaths$Tool;III)Z -/
def m1157 : pm_M := (fun j => [b1157_0, b1157_1, b1157_2, b1157_3, b1157_4, b1157_5, b1157_6, b1157_7].getD j [], fun _ => [], 18, 7)
def b1158_0 : List Instr := [.sipush 0, .istore 1, .goto_w 1]
def b1158_1 : List Instr := [.iload 1, .aload 0, .getfield 18475, .arraylength, .if_icmp .ge 2, .aload 0, .getfield 18475, .iload 1, .sipush 0, .bastore, .iinc 1 1, .goto 1]
def b1158_2 : List Instr := [.sipush 0, .istore 1, .sipush 0, .istore 2, .goto_w 3]
def b1158_3 : List Instr := [.iload 2, .aload 0, .getfield 18432, .if_icmp .ge 8, .sipush 0, .istore 3, .goto_w 4]
def b1158_4 : List Instr := [.iload 3, .aload 0, .getfield 18432, .if_icmp .ge 7, .aload 0, .iload 3, .iload 2, .invokeinterface 1159 3, .iload 1, .aload 0, .getfield 18480, .ifCond .le 5, .sipush 1, .goto 6]
def b1158_5 : List Instr := [.sipush 0, .goto_w 6]
def b1158_6 : List Instr := [.iadd, .istore 1, .iinc 3 1, .goto 4]
def b1158_7 : List Instr := [.iinc 2 1, .goto 3]
def b1158_8 : List Instr := [.iload 1, .jsr 0]
/-- TimberHouse$RouterPaths$Grid.pieces()I -/
def m1158 : pm_M := (fun j => [b1158_0, b1158_1, b1158_2, b1158_3, b1158_4, b1158_5, b1158_6, b1158_7, b1158_8].getD j [], fun _ => [], 18, 4)
def b1159_0 : List Instr := [.aload 0, .sipush 0, .putfield 18480, .aload 0, .iload 1, .iload 2, .invokeinterface 1160 3, .sipush 0, .istore 3, .goto_w 1]
def b1159_1 : List Instr := [.iload 3, .aload 0, .getfield 18480, .if_icmp .ge 2, .aload 0, .getfield 18467, .iload 3, .iaload, .aload 0, .getfield 18432, .irem, .istore 4, .aload 0, .getfield 18467, .iload 3, .iaload, .aload 0, .getfield 18432, .idiv, .istore 5, .aload 0, .iload 4, .sipush 1, .iadd, .iload 5, .invokeinterface 1160 3, .aload 0, .iload 4, .sipush 1, .isub, .iload 5, .invokeinterface 1160 3, .aload 0, .iload 4, .iload 5, .sipush 1, .iadd, .invokeinterface 1160 3, .aload 0, .iload 4, .iload 5, .sipush 1, .isub, .invokeinterface 1160 3, .iinc 3 1, .goto 1]
def b1159_2 : List Instr := [.return_]
/-- TimberHouse$RouterPaths$Grid.spread(II)V -/
def m1159 : pm_M := (fun j => [b1159_0, b1159_1, b1159_2].getD j [], fun _ => [], 18, 6)
def b1160_0 : List Instr := [.aload 0, .iload 1, .iload 2, .invokeinterface 1155 3, .ifCond .eq 1, .aload 0, .getfield 18443, .iload 2, .aaload, .iload 1, .iaload, .ifCond .le 1, .aload 0, .getfield 18475, .iload 2, .aload 0, .getfield 18432, .imul, .iload 1, .iadd, .baload, .ifCond .ne 1, .aload 0, .getfield 18475, .iload 2, .aload 0, .getfield 18432, .imul, .iload 1, .iadd, .sipush 1, .bastore, .aload 0, .getfield 18467, .aload 0, .dup, .getfield 18480, .dup_x1, .sipush 1, .iadd, .putfield 18480, .iload 2, .aload 0, .getfield 18432, .imul, .iload 1, .iadd, .iastore, .goto_w 1]
def b1160_1 : List Instr := [.return_]
/-- TimberHouse$RouterPaths$Grid.reach(II)V -/
def m1160 : pm_M := (fun j => [b1160_0, b1160_1].getD j [], fun _ => [], 18, 3)
def b1216_0 : List Instr := [.aload 0, .f2i, .aload 0, .aload 1, .putfield 19459, .aload 0, .aload 2, .putfield 19467, .return_]
/-- TimberHouse$RouterPaths$Machine.<init>(LTimberHouse$RouterPaths$Grid;[LTimberHouse$RouterPaths$Tool;)V -/
def m1216 : pm_M := (fun j => [b1216_0].getD j [], fun _ => [], 19, 3)
def b1217_0 : List Instr := [.aload 0, .sipush 0, .putfield 19472, .aload 0, .sipush 0, .putfield 19480, .aload 0, .sipush 100, .putfield 19488, .aload 0, .aload 0, .getfield 19467, .sipush 0, .aaload, .putfield 19499, .aload 0, .sipush 0, .putfield 19504, .aload 0, .sipush 0, .putfield 19512, .return_]
/-- TimberHouse$RouterPaths$Machine.begin()V -/
def m1217 : pm_M := (fun j => [b1217_0].getD j [], fun _ => [], 19, 1)
def b1218_0 : List Instr := [.aload 0, .aload 0, .getfield 19467, .iload 1, .aaload, .putfield 19499, .aload 0, .dup, .getfield 19504, .sipush 10, .iadd, .putfield 19504, .return_]
/-- TimberHouse$RouterPaths$Machine.change(I)V -/
def m1218 : pm_M := (fun j => [b1218_0].getD j [], fun _ => [], 19, 2)
def b1219_0 : List Instr := [.aload 0, .getfield 19472, .istore 5, .aload 0, .getfield 19480, .istore 6, .aload 0, .getfield 19488, .istore 7, .iload 2, .sipush (-1), .if_icmp .ne 1, .aload 0, .getfield 19472, .goto 2]
def b1219_1 : List Instr := [.iload 2, .goto_w 2]
def b1219_2 : List Instr := [.aload 0, .getfield 19472, .isub, .istore 8, .iload 3, .sipush (-1), .if_icmp .ne 3, .aload 0, .getfield 19480, .goto 4]
def b1219_3 : List Instr := [.iload 3, .goto_w 4]
def b1219_4 : List Instr := [.aload 0, .getfield 19480, .isub, .istore 9, .iload 4, .sipush (-1), .if_icmp .ne 5, .aload 0, .getfield 19488, .goto 6]
def b1219_5 : List Instr := [.iload 4, .goto_w 6]
def b1219_6 : List Instr := [.aload 0, .getfield 19488, .isub, .istore 10, .iload 8, .invokeinterface 3844 1, .iload 9, .invokeinterface 3844 1, .iload 10, .invokeinterface 3844 1, .invokeinterface 3841 2, .invokeinterface 3841 2, .istore 11, .sipush 1, .istore 12, .goto_w 7]
def b1219_7 : List Instr := [.iload 12, .iload 11, .if_icmp .gt 8, .aload 0, .aload 0, .iload 5, .iload 8, .iload 12, .iload 11, .invokeinterface 1220 5, .putfield 19472, .aload 0, .aload 0, .iload 6, .iload 9, .iload 12, .iload 11, .invokeinterface 1220 5, .putfield 19480, .aload 0, .aload 0, .iload 7, .iload 10, .iload 12, .iload 11, .invokeinterface 1220 5, .putfield 19488, .aload 0, .iload 1, .invokeinterface 1221 2, .iinc 12 1, .goto 7]
def b1219_8 : List Instr := [.return_]
/-- TimberHouse$RouterPaths$Machine.go(ZIII)V -/
def m1219 : pm_M := (fun j => [b1219_0, b1219_1, b1219_2, b1219_3, b1219_4, b1219_5, b1219_6, b1219_7, b1219_8].getD j [], fun _ => [], 19, 13)
def b1220_0 : List Instr := [.iload 1, .sipush 2, .iload 2, .imul, .iload 3, .imul, .iload 4, .iadd, .sipush 2, .iload 4, .imul, .invokeinterface 3845 2, .iadd, .jsr 0]
/-- TimberHouse$RouterPaths$Machine.at(IIII)I -/
def m1220 : pm_M := (fun j => [b1220_0].getD j [], fun _ => [], 19, 5)
def b1221_0 : List Instr := [.sipush 0, .istore 2, .sipush 0, .istore 3, .sipush 0, .aload 0, .getfield 19480, .aload 0, .getfield 19499, .getfield 17408, .isub, .invokeinterface 3841 2, .istore 4, .goto_w 1]
def b1221_1 : List Instr := [.iload 4, .aload 0, .getfield 19480, .aload 0, .getfield 19499, .getfield 17408, .iadd, .if_icmp .gt 10, .iload 4, .aload 0, .getfield 19459, .getfield 18432, .if_icmp .ge 10, .sipush 0, .aload 0, .getfield 19472, .aload 0, .getfield 19499, .getfield 17408, .isub, .invokeinterface 3841 2, .istore 5, .goto_w 2]
def b1221_2 : List Instr := [.iload 5, .aload 0, .getfield 19472, .aload 0, .getfield 19499, .getfield 17408, .iadd, .if_icmp .gt 9, .iload 5, .aload 0, .getfield 19459, .getfield 18432, .if_icmp .ge 9, .aload 0, .getfield 19499, .iload 5, .aload 0, .getfield 19472, .isub, .iload 4, .aload 0, .getfield 19480, .isub, .invokeinterface 1089 3, .ifCond .eq 3, .aload 0, .getfield 19459, .getfield 18443, .iload 4, .aaload, .iload 5, .iaload, .aload 0, .getfield 19488, .if_icmp .le 3, .sipush 1, .goto 4]
def b1221_3 : List Instr := [.sipush 0, .goto_w 4]
def b1221_4 : List Instr := [.istore 6, .iload 2, .iload 6, .ifCond .eq 5, .sipush 1, .goto 6]
def b1221_5 : List Instr := [.sipush 0, .goto_w 6]
def b1221_6 : List Instr := [.iadd, .istore 2, .iload 3, .iload 6, .ifCond .eq 7, .aload 0, .getfield 19459, .getfield 18459, .iload 4, .aaload, .iload 5, .baload, .ifCond .eq 7, .sipush 1, .goto 8]
def b1221_7 : List Instr := [.sipush 0, .goto_w 8]
def b1221_8 : List Instr := [.ior, .istore 3, .iinc 5 1, .goto 2]
def b1221_9 : List Instr := [.iinc 4 1, .goto 1]
def b1221_10 : List Instr := [.aload 0, .iload 1, .ifCond .ne 11, .iload 2, .ifCond .le 11, .sipush 1, .goto 13]
def b1221_11 : List Instr := [.iload 3, .ifCond .eq 12, .sipush 2, .goto 13]
def b1221_12 : List Instr := [.sipush 0, .goto_w 13]
def b1221_13 : List Instr := [.putfield 19520, .aload 0, .getfield 19520, .ifCond .le 14, .ret 71, .athrow]
def b1221_14 : List Instr := [.aload 0, .dup, .getfield 19512, .iload 2, .iadd, .putfield 19512, .aload 0, .dup, .getfield 19504, .iload 1, .ifCond .eq 15, .aload 0, .getfield 19499, .getfield 17416, .goto 16]
def b1221_15 : List Instr := [.sipush 1, .goto_w 16]
def b1221_16 : List Instr := [.iadd, .putfield 19504, .iload 2, .ifCond .le 17, .aload 0, .invokeinterface 1222 1, .goto_w 17]
def b1221_17 : List Instr := [.return_]
/-- TimberHouse$RouterPaths$Machine.step(Z)V -/
def m1221 : pm_M := (fun j => [b1221_0, b1221_1, b1221_2, b1221_3, b1221_4, b1221_5, b1221_6, b1221_7, b1221_8, b1221_9, b1221_10, b1221_11, b1221_12, b1221_13, b1221_14, b1221_15, b1221_16, b1221_17].getD j [], fun _ => [], 19, 7)
def b1222_0 : List Instr := [.sipush 0, .aload 0, .getfield 19480, .aload 0, .getfield 19499, .getfield 17408, .isub, .invokeinterface 3841 2, .istore 1, .goto_w 1]
def b1222_1 : List Instr := [.iload 1, .aload 0, .getfield 19480, .aload 0, .getfield 19499, .getfield 17408, .iadd, .if_icmp .gt 6, .iload 1, .aload 0, .getfield 19459, .getfield 18432, .if_icmp .ge 6, .aload 0, .getfield 19459, .getfield 18443, .iload 1, .aaload, .astore 2, .sipush 0, .aload 0, .getfield 19472, .aload 0, .getfield 19499, .getfield 17408, .isub, .invokeinterface 3841 2, .istore 3, .goto_w 2]
def b1222_2 : List Instr := [.iload 3, .aload 0, .getfield 19472, .aload 0, .getfield 19499, .getfield 17408, .iadd, .if_icmp .gt 5, .iload 3, .aload 0, .getfield 19459, .getfield 18432, .if_icmp .ge 5, .aload 2, .iload 3, .aload 0, .getfield 19499, .iload 3, .aload 0, .getfield 19472, .isub, .iload 1, .aload 0, .getfield 19480, .isub, .invokeinterface 1089 3, .ifCond .eq 3, .aload 2, .iload 3, .iaload, .aload 0, .getfield 19488, .invokeinterface 3840 2, .goto 4]
def b1222_3 : List Instr := [.aload 2, .iload 3, .iaload, .goto_w 4]
def b1222_4 : List Instr := [.iastore, .iinc 3 1, .goto 2]
def b1222_5 : List Instr := [.iinc 1 1, .goto 1]
def b1222_6 : List Instr := [.return_]
/-- TimberHouse$RouterPaths$Machine.lower()V -/
def m1222 : pm_M := (fun j => [b1222_0, b1222_1, b1222_2, b1222_3, b1222_4, b1222_5, b1222_6].getD j [], fun _ => [], 19, 4)
def b1280_0 : List Instr := [.aload 0, .f2i, .aload 0, .new 63, .dup, .invokeinterface 4032 1, .putfield 20483, .aload 0, .new 63, .dup, .invokeinterface 4032 1, .putfield 20491, .aload 0, .new 63, .dup, .invokeinterface 4032 1, .putfield 20499, .aload 0, .new 21, .dup, .aload 0, .getfield 20483, .aload 0, .getfield 20499, .invokeinterface 1344 3, .putfield 20507, .aload 0, .new 21, .dup, .aload 0, .getfield 20483, .aload 0, .getfield 20499, .invokeinterface 1344 3, .putfield 20515, .aload 0, .new 21, .dup, .aload 0, .getfield 20483, .aload 0, .getfield 20499, .invokeinterface 1344 3, .putfield 20523, .aload 0, .sipush 6, .newarray .int, .putfield 20531, .aload 0, .sipush 6, .newarray .int, .putfield 20539, .aload 0, .sipush 6, .newarray .int, .putfield 20547, .aload 0, .iload 1, .i2l, .putfield 20609, .return_]
/-- TimberHouse$WorkPlans.<init>(I)V -/
def m1280 : pm_M := (fun j => [b1280_0].getD j [], fun _ => [], 20, 2)
def b1281_0 : List Instr := [.iload 1, .aload 0, .getfield 20491, .invokeinterface 4033 1, .invokeinterface 1282 2, .iload 2, .sipush 0, .sipush 3, .invokeinterface 1283 3, .ifCond .eq 1, .iload 3, .sipush 1, .sipush 100, .invokeinterface 1283 3, .ifCond .eq 1, .iload 4, .sipush 0, .sipush 100, .invokeinterface 1283 3, .ifCond .eq 1, .sipush 1, .goto 2]
def b1281_1 : List Instr := [.sipush 0, .goto_w 2]
def b1281_2 : List Instr := [.invokeinterface 1284 1, .aload 0, .getfield 20491, .iload 1, .invokeinterface 4034 2, .checkcast 54, .astore 5, .aload 5, .getfield 55315, .invokeinterface 4033 1, .sipush 4, .if_icmp .ge 3, .sipush 1, .goto 4]
def b1281_3 : List Instr := [.sipush 0, .goto_w 4]
def b1281_4 : List Instr := [.invokeinterface 1285 1, .new 55, .dup, .aload 0, .getfield 20499, .invokeinterface 4033 1, .iload 2, .iload 3, .iload 4, .invokeinterface 3520 5, .astore 6, .aload 0, .getfield 20499, .aload 6, .invokeinterface 4036 2, .pop, .aload 5, .getfield 55315, .aload 6, .invokeinterface 4036 2, .pop, .aload 0, .sipush 1, .putfield 20594, .aload 6, .getfield 56320, .jsr 0]
/-- TimberHouse$WorkPlans.step(IIII)I -/
def m1281 : pm_M := (fun j => [b1281_0, b1281_1, b1281_2, b1281_3, b1281_4].getD j [], fun _ => [], 20, 7)
def b1282_0 : List Instr := [.iload 0, .ifCond .lt 1, .iload 0, .iload 1, .if_icmp .lt 2, .goto_w 1]
def b1282_1 : List Instr := [.ret 67, .athrow]
def b1282_2 : List Instr := [.return_]
/-- TimberHouse$WorkPlans.inside(II)V -/
def m1282 : pm_M := (fun j => [b1282_0, b1282_1, b1282_2].getD j [], fun _ => [], 0, 2)
def b1283_0 : List Instr := [.iload 0, .iload 1, .if_icmp .lt 1, .iload 0, .iload 2, .if_icmp .gt 1, .sipush 1, .goto 2]
def b1283_1 : List Instr := [.sipush 0, .goto_w 2]
def b1283_2 : List Instr := [.jsr 2]
/-- TimberHouse$WorkPlans.isIn(III)Z -/
def m1283 : pm_M := (fun j => [b1283_0, b1283_1, b1283_2].getD j [], fun _ => [], 0, 3)
def b1284_0 : List Instr := [.iload 0, .ifCond .ne 1, .ret 70, .athrow]
def b1284_1 : List Instr := [.return_]
/-- TimberHouse$WorkPlans.need(Z)V -/
def m1284 : pm_M := (fun j => [b1284_0, b1284_1].getD j [], fun _ => [], 0, 1)
def b1285_0 : List Instr := [.iload 0, .ifCond .ne 1, .ret 71, .athrow]
def b1285_1 : List Instr := [.return_]
/-- TimberHouse$WorkPlans.can(Z)V -/
def m1285 : pm_M := (fun j => [b1285_0, b1285_1].getD j [], fun _ => [], 0, 1)
def b1286_0 : List Instr := [.iload 1, .sipush 4, .invokeinterface 1282 2, .aload 0, .getfield 20586, .invokeinterface 1285 1, .iload 1, .ifCond .ne 1, .aload 0, .getfield 20560, .i2l, .goto 4]
def b1286_1 : List Instr := [.iload 1, .sipush 1, .if_icmp .ne 2, .aload 0, .getfield 20601, .goto 4]
def b1286_2 : List Instr := [.iload 1, .sipush 2, .if_icmp .ne 3, .aload 0, .getfield 20568, .i2l, .goto 4]
def b1286_3 : List Instr := [.aload 0, .invokeinterface 1287 1, .i2l, .goto_w 4]
def b1286_4 : List Instr := [.lreturn]
/-- TimberHouse$WorkPlans.about(I)J -/
def m1286 : pm_M := (fun j => [b1286_0, b1286_1, b1286_2, b1286_3, b1286_4].getD j [], fun _ => [], 20, 2)
def b1287_0 : List Instr := [.sipush 0, .istore 1, .sipush 0, .istore 2, .goto_w 1]
def b1287_1 : List Instr := [.iload 2, .sipush 24, .if_icmp .ge 7, .aload 0, .getfield 20515, .getfield 21531, .iload 2, .iaload, .aload 0, .getfield 20523, .getfield 21531, .iload 2, .iaload, .if_icmp .ne 3, .aload 0, .getfield 20515, .getfield 21531, .iload 2, .iaload, .sipush (-1), .if_icmp .eq 2, .aload 0, .getfield 20515, .getfield 21523, .iload 2, .iaload, .aload 0, .getfield 20523, .getfield 21523, .iload 2, .iaload, .if_icmp .ne 3, .goto_w 2]
def b1287_2 : List Instr := [.sipush 1, .goto 4]
def b1287_3 : List Instr := [.sipush 0, .goto_w 4]
def b1287_4 : List Instr := [.istore 3, .iload 1, .iload 3, .ifCond .eq 5, .sipush 0, .goto 6]
def b1287_5 : List Instr := [.sipush 1, .goto_w 6]
def b1287_6 : List Instr := [.iadd, .istore 1, .iinc 2 1, .goto 1]
def b1287_7 : List Instr := [.iload 1, .jsr 0]
/-- TimberHouse$WorkPlans.others()I -/
def m1287 : pm_M := (fun j => [b1287_0, b1287_1, b1287_2, b1287_3, b1287_4, b1287_5, b1287_6, b1287_7].getD j [], fun _ => [], 20, 4)
def b1288_0 : List Instr := [.iload 1, .sipush 0, .sipush 3, .invokeinterface 1283 3, .invokeinterface 1284 1, .aload 0, .getfield 20483, .invokeinterface 4033 1, .sipush 6, .if_icmp .ge 1, .sipush 1, .goto 2]
def b1288_1 : List Instr := [.sipush 0, .goto_w 2]
def b1288_2 : List Instr := [.invokeinterface 1285 1, .aload 0, .getfield 20483, .new 52, .dup, .iload 1, .invokeinterface 3328 2, .invokeinterface 4036 2, .pop, .aload 0, .sipush 1, .putfield 20594, .aload 0, .getfield 20483, .invokeinterface 4033 1, .sipush 1, .isub, .jsr 0]
/-- TimberHouse$WorkPlans.machine(I)I -/
def m1288 : pm_M := (fun j => [b1288_0, b1288_1, b1288_2].getD j [], fun _ => [], 20, 2)
def b1289_0 : List Instr := [.iload 1, .aload 0, .getfield 20483, .invokeinterface 4033 1, .invokeinterface 1282 2, .iload 2, .sipush 0, .sipush 1000, .invokeinterface 1283 3, .ifCond .eq 1, .iload 3, .iload 2, .sipush 1, .iadd, .sipush 2000, .invokeinterface 1283 3, .ifCond .eq 1, .sipush 1, .goto 2]
def b1289_1 : List Instr := [.sipush 0, .goto_w 2]
def b1289_2 : List Instr := [.invokeinterface 1284 1, .aload 0, .getfield 20483, .iload 1, .invokeinterface 4034 2, .checkcast 52, .astore 4, .aload 4, .getfield 53259, .invokeinterface 4033 1, .sipush 8, .if_icmp .ge 3, .sipush 1, .goto 4]
def b1289_3 : List Instr := [.sipush 0, .goto_w 4]
def b1289_4 : List Instr := [.invokeinterface 1285 1, .aload 4, .getfield 53259, .new 53, .dup, .iload 2, .iload 3, .invokeinterface 3392 3, .invokeinterface 4036 2, .pop, .aload 0, .sipush 1, .putfield 20594, .aload 4, .getfield 53259, .invokeinterface 4033 1, .jsr 0]
/-- TimberHouse$WorkPlans.out(III)I -/
def m1289 : pm_M := (fun j => [b1289_0, b1289_1, b1289_2, b1289_3, b1289_4].getD j [], fun _ => [], 20, 5)
def b1290_0 : List Instr := [.iload 1, .sipush 0, .sipush 10000, .invokeinterface 1283 3, .ifCond .eq 1, .iload 2, .sipush 0, .sipush 100, .invokeinterface 1283 3, .ifCond .eq 1, .sipush 1, .goto 2]
def b1290_1 : List Instr := [.sipush 0, .goto_w 2]
def b1290_2 : List Instr := [.invokeinterface 1284 1, .aload 0, .getfield 20491, .invokeinterface 4033 1, .sipush 6, .if_icmp .ge 3, .sipush 1, .goto 4]
def b1290_3 : List Instr := [.sipush 0, .goto_w 4]
def b1290_4 : List Instr := [.invokeinterface 1285 1, .aload 0, .getfield 20491, .new 54, .dup, .iload 1, .iload 2, .invokeinterface 3456 3, .invokeinterface 4036 2, .pop, .aload 0, .sipush 1, .putfield 20594, .aload 0, .getfield 20491, .invokeinterface 4033 1, .sipush 1, .isub, .jsr 0]
/-- TimberHouse$WorkPlans.job(II)I -/
def m1290 : pm_M := (fun j => [b1290_0, b1290_1, b1290_2, b1290_3, b1290_4].getD j [], fun _ => [], 20, 3)
def b1291_0 : List Instr := [.iload 1, .aload 0, .getfield 20491, .invokeinterface 4033 1, .invokeinterface 1282 2, .iload 2, .sipush 0, .sipush 10000, .invokeinterface 1283 3, .invokeinterface 1284 1, .aload 0, .getfield 20491, .iload 1, .invokeinterface 4034 2, .checkcast 54, .iload 2, .putfield 55296, .aload 0, .sipush 1, .putfield 20594, .return_]
/-- TimberHouse$WorkPlans.due(II)V -/
def m1291 : pm_M := (fun j => [b1291_0].getD j [], fun _ => [], 20, 3)
def b1292_0 : List Instr := [.iload 1, .sipush 1, .sipush 2000, .invokeinterface 1283 3, .invokeinterface 1284 1, .aload 0, .getfield 20491, .invokeinterface 4040 1, .ifCond .ne 1, .aload 0, .invokeinterface 1293 1, .ifCond .eq 1, .sipush 1, .goto 2]
def b1292_1 : List Instr := [.sipush 0, .goto_w 2]
def b1292_2 : List Instr := [.invokeinterface 1285 1, .sipush 0, .istore 2, .sipush 0, .istore 3, .goto_w 3]
def b1292_3 : List Instr := [.iload 3, .aload 0, .getfield 20491, .invokeinterface 4033 1, .if_icmp .ge 4, .aload 0, .getfield 20547, .iload 3, .aload 0, .aload 0, .getfield 20491, .iload 3, .invokeinterface 4034 2, .checkcast 54, .invokeinterface 1295 2, .iastore, .iload 2, .aload 0, .getfield 20547, .iload 3, .iaload, .iadd, .istore 2, .iinc 3 1, .goto 3]
def b1292_4 : List Instr := [.aload 0, .iload 2, .i2l, .putfield 20601, .aload 0, .invokeinterface 1296 1, .aload 0, .aload 0, .getfield 20507, .aload 0, .getfield 20539, .aload 0, .getfield 20491, .invokeinterface 1349 3, .putfield 20560, .aload 0, .getfield 20507, .invokeinterface 1345 1, .aload 0, .sipush 0, .putfield 20568, .aload 0, .iload 1, .putfield 20576, .aload 0, .sipush 0, .sipush 0, .iload 2, .invokeinterface 1297 4, .istore 3, .aload 0, .invokeinterface 1299 1, .aload 0, .sipush 1, .putfield 20586, .aload 0, .sipush 0, .putfield 20594, .iload 3, .ifCond .eq 5, .sipush 0, .goto 6]
def b1292_5 : List Instr := [.sipush 1, .goto_w 6]
def b1292_6 : List Instr := [.jsr 0]
/-- TimberHouse$WorkPlans.run(I)I -/
def m1292 : pm_M := (fun j => [b1292_0, b1292_1, b1292_2, b1292_3, b1292_4, b1292_5, b1292_6].getD j [], fun _ => [], 20, 4)
def b1293_0 : List Instr := [.sipush 0, .istore 1, .goto_w 1]
def b1293_1 : List Instr := [.iload 1, .aload 0, .getfield 20491, .invokeinterface 4033 1, .if_icmp .ge 3, .aload 0, .aload 0, .getfield 20491, .iload 1, .invokeinterface 4034 2, .checkcast 54, .invokeinterface 1294 2, .ifCond .ne 2, .sipush 0, .jsr 2]
def b1293_2 : List Instr := [.iinc 1 1, .goto 1]
def b1293_3 : List Instr := [.sipush 1, .jsr 2]
/-- TimberHouse$WorkPlans.allFit()Z -/
def m1293 : pm_M := (fun j => [b1293_0, b1293_1, b1293_2, b1293_3].getD j [], fun _ => [], 20, 2)
def b1294_0 : List Instr := [.sipush 0, .istore 2, .goto_w 1]
def b1294_1 : List Instr := [.iload 2, .aload 1, .getfield 55315, .invokeinterface 4033 1, .if_icmp .ge 7, .sipush 0, .istore 3, .sipush 0, .istore 4, .goto_w 2]
def b1294_2 : List Instr := [.iload 4, .aload 0, .getfield 20483, .invokeinterface 4033 1, .if_icmp .ge 5, .iload 3, .aload 0, .getfield 20483, .iload 4, .invokeinterface 4034 2, .checkcast 52, .getfield 53248, .aload 1, .getfield 55315, .iload 2, .invokeinterface 4034 2, .checkcast 55, .getfield 56328, .if_icmp .ne 3, .sipush 1, .goto 4]
def b1294_3 : List Instr := [.sipush 0, .goto_w 4]
def b1294_4 : List Instr := [.ior, .istore 3, .iinc 4 1, .goto 2]
def b1294_5 : List Instr := [.iload 3, .ifCond .ne 6, .sipush 0, .jsr 2]
def b1294_6 : List Instr := [.iinc 2 1, .goto 1]
def b1294_7 : List Instr := [.sipush 1, .jsr 2]
/-- TimberHouse$WorkPlans.fits(LTimberHouse$WorkPlans$Job;)Z -/
def m1294 : pm_M := (fun j => [b1294_0, b1294_1, b1294_2, b1294_3, b1294_4, b1294_5, b1294_6, b1294_7].getD j [], fun _ => [], 20, 5)
def b1295_0 : List Instr := [.aload 0, .getfield 20507, .invokeinterface 1345 1, .aload 1, .aload 0, .getfield 20507, .aload 1, .invokeinterface 1346 2, .invokeinterface 3457 2, .jsr 0]
/-- TimberHouse$WorkPlans.aloneOf(LTimberHouse$WorkPlans$Job;)I -/
def m1295 : pm_M := (fun j => [b1295_0].getD j [], fun _ => [], 20, 2)
def b1296_0 : List Instr := [.sipush 0, .istore 1, .goto_w 1]
def b1296_1 : List Instr := [.iload 1, .aload 0, .getfield 20491, .invokeinterface 4033 1, .if_icmp .ge 4, .iload 1, .istore 2, .goto_w 2]
def b1296_2 : List Instr := [.iload 2, .ifCond .le 3, .aload 0, .getfield 20491, .aload 0, .getfield 20539, .iload 2, .sipush 1, .isub, .iaload, .invokeinterface 4034 2, .checkcast 54, .getfield 55296, .aload 0, .getfield 20491, .iload 1, .invokeinterface 4034 2, .checkcast 54, .getfield 55296, .if_icmp .le 3, .aload 0, .getfield 20539, .iload 2, .aload 0, .getfield 20539, .iload 2, .sipush 1, .isub, .iaload, .iastore, .iinc 2 (-1), .goto 2]
def b1296_3 : List Instr := [.aload 0, .getfield 20539, .iload 2, .iload 1, .iastore, .iinc 1 1, .goto 1]
def b1296_4 : List Instr := [.return_]
/-- TimberHouse$WorkPlans.byDue()V -/
def m1296 : pm_M := (fun j => [b1296_0, b1296_1, b1296_2, b1296_3, b1296_4].getD j [], fun _ => [], 20, 3)
def b1297_0 : List Instr := [.sipush 0, .istore 4, .goto_w 1]
def b1297_1 : List Instr := [.iload 4, .aload 0, .getfield 20491, .invokeinterface 4033 1, .if_icmp .ge 7, .aload 0, .getfield 20531, .iload 1, .iload 4, .invokeinterface 1298 3, .ifCond .eq 2, .goto 6]
def b1297_2 : List Instr := [.aload 0, .getfield 20568, .aload 0, .getfield 20576, .if_icmp .ne 3, .sipush 0, .jsr 2]
def b1297_3 : List Instr := [.aload 0, .dup, .getfield 20568, .sipush 1, .iadd, .putfield 20568, .aload 0, .getfield 20531, .iload 1, .iload 4, .iastore, .aload 0, .getfield 20491, .iload 4, .invokeinterface 4034 2, .checkcast 54, .astore 5, .iload 2, .aload 5, .aload 0, .getfield 20507, .aload 5, .invokeinterface 1346 2, .invokeinterface 3457 2, .iadd, .istore 6, .sipush 1, .istore 7, .iload 6, .iload 3, .iadd, .aload 0, .getfield 20547, .iload 4, .iaload, .isub, .aload 0, .getfield 20560, .if_icmp .ge 5, .iload 1, .sipush 1, .iadd, .aload 0, .getfield 20491, .invokeinterface 4033 1, .if_icmp .ne 4, .aload 0, .iload 6, .putfield 20560, .aload 0, .getfield 20531, .sipush 0, .aload 0, .getfield 20539, .sipush 0, .iload 1, .sipush 1, .iadd, .monitorenter, .goto 5]
def b1297_4 : List Instr := [.aload 0, .iload 1, .sipush 1, .iadd, .iload 6, .iload 3, .aload 0, .getfield 20547, .iload 4, .iaload, .isub, .invokeinterface 1297 4, .istore 7, .goto_w 5]
def b1297_5 : List Instr := [.aload 0, .getfield 20507, .aload 5, .invokeinterface 1350 2, .iload 7, .ifCond .ne 6, .sipush 0, .jsr 2]
def b1297_6 : List Instr := [.iinc 4 1, .goto 1]
def b1297_7 : List Instr := [.sipush 1, .jsr 2]
/-- TimberHouse$WorkPlans.branch(III)Z -/
def m1297 : pm_M := (fun j => [b1297_0, b1297_1, b1297_2, b1297_3, b1297_4, b1297_5, b1297_6, b1297_7].getD j [], fun _ => [], 20, 8)
def b1298_0 : List Instr := [.sipush 0, .istore 3, .goto_w 1]
def b1298_1 : List Instr := [.iload 3, .iload 1, .if_icmp .ge 3, .aload 0, .iload 3, .iaload, .iload 2, .if_icmp .ne 2, .sipush 1, .jsr 2]
def b1298_2 : List Instr := [.iinc 3 1, .goto 1]
def b1298_3 : List Instr := [.sipush 0, .jsr 2]
/-- TimberHouse$WorkPlans.has([III)Z -/
def m1298 : pm_M := (fun j => [b1298_0, b1298_1, b1298_2, b1298_3].getD j [], fun _ => [], 0, 4)
def b1299_0 : List Instr := [.aload 0, .getfield 20523, .aload 0, .getfield 20515, .invokeinterface 1351 2, .aload 0, .aload 0, .getfield 20515, .aload 0, .getfield 20539, .aload 0, .getfield 20491, .invokeinterface 1349 3, .putfield 20560, .aload 0, .aload 0, .getfield 20491, .invokeinterface 4033 1, .putfield 20552, .return_]
/-- TimberHouse$WorkPlans.take()V -/
def m1299 : pm_M := (fun j => [b1299_0].getD j [], fun _ => [], 20, 1)
def b1300_0 : List Instr := [.iload 1, .sipush 0, .sipush 100, .invokeinterface 1283 3, .invokeinterface 1284 1, .aload 0, .getfield 20586, .ifCond .eq 1, .aload 0, .getfield 20594, .ifCond .ne 1, .sipush 1, .goto 2]
def b1300_1 : List Instr := [.sipush 0, .goto_w 2]
def b1300_2 : List Instr := [.invokeinterface 1285 1, .sipush 0, .istore 2, .sipush 0, .istore 3, .goto_w 3]
def b1300_3 : List Instr := [.iload 3, .iload 1, .if_icmp .ge 6, .aload 0, .invokeinterface 1301 1, .istore 4, .aload 0, .invokeinterface 1301 1, .istore 5, .aload 0, .iload 4, .iload 5, .invokeinterface 1302 3, .aload 0, .getfield 20507, .aload 0, .getfield 20539, .aload 0, .getfield 20491, .invokeinterface 1349 3, .istore 6, .iload 6, .aload 0, .getfield 20560, .if_icmp .ge 4, .aload 0, .iload 6, .putfield 20560, .iinc 2 1, .goto 5]
def b1300_4 : List Instr := [.aload 0, .iload 4, .iload 5, .invokeinterface 1302 3, .goto_w 5]
def b1300_5 : List Instr := [.iinc 3 1, .goto 3]
def b1300_6 : List Instr := [.aload 0, .invokeinterface 1299 1, .iload 2, .jsr 0]
/-- TimberHouse$WorkPlans.improve(I)I -/
def m1300 : pm_M := (fun j => [b1300_0, b1300_1, b1300_2, b1300_3, b1300_4, b1300_5, b1300_6].getD j [], fun _ => [], 20, 7)
def b1301_0 : List Instr := [.aload 0, .aload 0, .getfield 20609, .bipush 6364136223846793005, .lmul, .bipush 1442695040888963407, .ladd, .putfield 20609, .aload 0, .getfield 20609, .sipush 33, .lushr, .aload 0, .getfield 20491, .invokeinterface 4033 1, .i2l, .lrem, .l2i, .jsr 0]
/-- TimberHouse$WorkPlans.drawn()I -/
def m1301 : pm_M := (fun j => [b1301_0].getD j [], fun _ => [], 20, 1)
def b1302_0 : List Instr := [.aload 0, .getfield 20539, .iload 1, .iaload, .istore 3, .aload 0, .getfield 20539, .iload 1, .aload 0, .getfield 20539, .iload 2, .iaload, .iastore, .aload 0, .getfield 20539, .iload 2, .iload 3, .iastore, .return_]
/-- TimberHouse$WorkPlans.swap(II)V -/
def m1302 : pm_M := (fun j => [b1302_0].getD j [], fun _ => [], 20, 4)
def b1303_0 : List Instr := [.iload 1, .aload 0, .getfield 20499, .invokeinterface 4033 1, .invokeinterface 1282 2, .iload 2, .sipush 2, .invokeinterface 1282 2, .aload 0, .getfield 20586, .invokeinterface 1285 1, .aload 0, .getfield 20515, .getfield 21531, .iload 1, .iaload, .sipush (-1), .if_icmp .ne 1, .sipush (-1), .goto 3]
def b1303_1 : List Instr := [.iload 2, .ifCond .ne 2, .aload 0, .getfield 20515, .getfield 21523, .iload 1, .iaload, .goto 3]
def b1303_2 : List Instr := [.aload 0, .getfield 20515, .getfield 21531, .iload 1, .iaload, .goto_w 3]
def b1303_3 : List Instr := [.jsr 0]
/-- TimberHouse$WorkPlans.at(II)I -/
def m1303 : pm_M := (fun j => [b1303_0, b1303_1, b1303_2, b1303_3].getD j [], fun _ => [], 20, 3)
def b1304_0 : List Instr := [.aload 0, .getfield 20586, .invokeinterface 1285 1, .iload 1, .aload 0, .getfield 20552, .invokeinterface 1282 2, .aload 0, .getfield 20539, .iload 1, .iaload, .jsr 0]
/-- TimberHouse$WorkPlans.order(I)I -/
def m1304 : pm_M := (fun j => [b1304_0].getD j [], fun _ => [], 20, 2)
def b1305_0 : List Instr := [.iload 1, .aload 0, .getfield 20491, .invokeinterface 4033 1, .invokeinterface 1282 2, .aload 0, .aload 0, .getfield 20491, .iload 1, .invokeinterface 4034 2, .checkcast 54, .invokeinterface 1294 2, .invokeinterface 1285 1, .aload 0, .aload 0, .getfield 20491, .iload 1, .invokeinterface 4034 2, .checkcast 54, .invokeinterface 1295 2, .i2l, .lreturn]
/-- TimberHouse$WorkPlans.alone(I)J -/
def m1305 : pm_M := (fun j => [b1305_0].getD j [], fun _ => [], 20, 2)
def b1306_0 : List Instr := [.iload 1, .aload 0, .getfield 20491, .invokeinterface 4033 1, .invokeinterface 1282 2, .aload 0, .getfield 20586, .ifCond .eq 1, .aload 0, .getfield 20594, .ifCond .ne 1, .sipush 1, .goto 2]
def b1306_1 : List Instr := [.sipush 0, .goto_w 2]
def b1306_2 : List Instr := [.invokeinterface 1285 1, .aload 0, .getfield 20507, .aload 0, .getfield 20515, .invokeinterface 1351 2, .aload 0, .getfield 20507, .aload 0, .getfield 20491, .iload 1, .invokeinterface 4034 2, .checkcast 54, .invokeinterface 1350 2, .aload 0, .getfield 20507, .aload 0, .getfield 20491, .iload 1, .invokeinterface 4034 2, .checkcast 54, .invokeinterface 1346 2, .jsr 0]
/-- TimberHouse$WorkPlans.promise(I)I -/
def m1306 : pm_M := (fun j => [b1306_0, b1306_1, b1306_2].getD j [], fun _ => [], 20, 2)
def b1307_0 : List Instr := [.iload 1, .ifCond .lt 1, .sipush 1, .goto 2]
def b1307_1 : List Instr := [.sipush 0, .goto_w 2]
def b1307_2 : List Instr := [.invokeinterface 1284 1, .aload 0, .invokeinterface 1293 1, .invokeinterface 1285 1, .iload 1, .istore 2, .sipush 0, .istore 3, .goto_w 3]
def b1307_3 : List Instr := [.iload 3, .aload 0, .getfield 20491, .invokeinterface 4033 1, .if_icmp .ge 9, .iload 3, .sipush 1, .iadd, .istore 4, .goto_w 4]
def b1307_4 : List Instr := [.iload 4, .aload 0, .getfield 20491, .invokeinterface 4033 1, .if_icmp .ge 8, .aload 0, .getfield 20491, .iload 3, .invokeinterface 4034 2, .checkcast 54, .astore 5, .aload 0, .getfield 20491, .iload 4, .invokeinterface 4034 2, .checkcast 54, .astore 6, .aload 0, .aload 5, .invokeinterface 1295 2, .ifCond .ne 5, .aload 0, .aload 6, .invokeinterface 1295 2, .ifCond .ne 5, .aload 0, .aload 5, .aload 6, .invokeinterface 1308 3, .ifCond .ne 5, .aload 0, .aload 6, .aload 5, .invokeinterface 1308 3, .ifCond .ne 5, .sipush 1, .goto 6]
def b1307_5 : List Instr := [.sipush 0, .goto_w 6]
def b1307_6 : List Instr := [.istore 7, .iload 7, .ifCond .eq 7, .iload 2, .iinc 2 (-1), .ifCond .ne 7, .sipush 8, .iload 3, .imul, .iload 4, .iadd, .jsr 0]
def b1307_7 : List Instr := [.iinc 4 1, .goto 4]
def b1307_8 : List Instr := [.iinc 3 1, .goto 3]
def b1307_9 : List Instr := [.sipush (-1), .jsr 0]
/-- TimberHouse$WorkPlans.clash(I)I -/
def m1307 : pm_M := (fun j => [b1307_0, b1307_1, b1307_2, b1307_3, b1307_4, b1307_5, b1307_6, b1307_7, b1307_8, b1307_9].getD j [], fun _ => [], 20, 8)
def b1308_0 : List Instr := [.aload 0, .getfield 20507, .invokeinterface 1345 1, .aload 0, .getfield 20507, .aload 1, .invokeinterface 1346 2, .istore 3, .aload 2, .aload 0, .getfield 20507, .aload 2, .invokeinterface 1346 2, .invokeinterface 3457 2, .ifCond .ne 1, .sipush 1, .goto 2]
def b1308_1 : List Instr := [.sipush 0, .goto_w 2]
def b1308_2 : List Instr := [.jsr 2]
/-- TimberHouse$WorkPlans.isBehind(LTimberHouse$WorkPlans$Job;LTimberHouse$WorkPlans$Job;)Z -/
def m1308 : pm_M := (fun j => [b1308_0, b1308_1, b1308_2].getD j [], fun _ => [], 20, 4)
def b1309_0 : List Instr := [.aload 0, .getfield 20586, .invokeinterface 1285 1, .sipush 1, .istore 1, .goto_w 1]
def b1309_1 : List Instr := [.iload 1, .sipush 5, .if_icmp .ge 8, .sipush 24, .istore 2, .sipush 0, .istore 3, .goto_w 2]
def b1309_2 : List Instr := [.iload 3, .aload 0, .getfield 20491, .invokeinterface 4033 1, .if_icmp .ge 6, .aload 0, .getfield 20491, .iload 3, .invokeinterface 4034 2, .checkcast 54, .astore 4, .sipush 0, .istore 5, .goto_w 3]
def b1309_3 : List Instr := [.iload 5, .aload 4, .getfield 55315, .invokeinterface 4033 1, .if_icmp .ge 5, .aload 4, .getfield 55315, .iload 5, .invokeinterface 4034 2, .checkcast 55, .getfield 56320, .istore 6, .iload 6, .iload 2, .if_icmp .ge 4, .aload 0, .iload 1, .aload 4, .iload 5, .invokeinterface 1310 4, .ifCond .eq 4, .iload 6, .istore 2, .goto_w 4]
def b1309_4 : List Instr := [.iinc 5 1, .goto 3]
def b1309_5 : List Instr := [.iinc 3 1, .goto 2]
def b1309_6 : List Instr := [.iload 2, .sipush 24, .if_icmp .ge 7, .sipush 100, .iload 1, .imul, .iload 2, .iadd, .jsr 0]
def b1309_7 : List Instr := [.iinc 1 1, .goto 1]
def b1309_8 : List Instr := [.sipush 0, .istore 1, .goto_w 9]
def b1309_9 : List Instr := [.iload 1, .aload 0, .getfield 20491, .invokeinterface 4033 1, .if_icmp .ge 11, .aload 0, .getfield 20515, .aload 0, .getfield 20491, .iload 1, .invokeinterface 4034 2, .checkcast 54, .invokeinterface 1352 2, .aload 0, .getfield 20491, .iload 1, .invokeinterface 4034 2, .checkcast 54, .getfield 55296, .if_icmp .le 10, .sipush 500, .iload 1, .iadd, .jsr 0]
def b1309_10 : List Instr := [.iinc 1 1, .goto 9]
def b1309_11 : List Instr := [.sipush 0, .jsr 0]
/-- TimberHouse$WorkPlans.check()I -/
def m1309 : pm_M := (fun j => [b1309_0, b1309_1, b1309_2, b1309_3, b1309_4, b1309_5, b1309_6, b1309_7, b1309_8, b1309_9, b1309_10, b1309_11].getD j [], fun _ => [], 20, 7)
def b1310_0 : List Instr := [.aload 2, .getfield 55315, .iload 3, .invokeinterface 4034 2, .checkcast 55, .astore 4, .aload 0, .getfield 20515, .getfield 21523, .aload 4, .getfield 56320, .iaload, .istore 5, .aload 0, .getfield 20515, .getfield 21531, .aload 4, .getfield 56320, .iaload, .istore 6, .iload 1, .sipush 1, .if_icmp .eq 1, .iload 6, .sipush (-1), .if_icmp .ne 4, .goto_w 1]
def b1310_1 : List Instr := [.iload 6, .sipush (-1), .if_icmp .ne 2, .sipush 1, .goto 3]
def b1310_2 : List Instr := [.sipush 0, .goto_w 3]
def b1310_3 : List Instr := [.jsr 2]
def b1310_4 : List Instr := [.iload 1, .sipush 2, .if_icmp .ne 9, .iload 3, .ifCond .ne 5, .aconst_null, .goto 6]
def b1310_5 : List Instr := [.aload 2, .getfield 55315, .iload 3, .sipush 1, .isub, .invokeinterface 4034 2, .checkcast 55, .goto_w 6]
def b1310_6 : List Instr := [.astore 7, .aload 7, .ifnull 7, .iload 5, .aload 0, .getfield 20515, .getfield 21523, .aload 7, .getfield 56320, .iaload, .aload 7, .getfield 56336, .iadd, .aload 7, .getfield 56344, .iadd, .if_icmp .ge 7, .sipush 1, .goto 8]
def b1310_7 : List Instr := [.sipush 0, .goto_w 8]
def b1310_8 : List Instr := [.jsr 2]
def b1310_9 : List Instr := [.iload 1, .sipush 4, .if_icmp .ne 12, .aload 0, .getfield 20483, .iload 6, .invokeinterface 4034 2, .checkcast 52, .iload 5, .aload 4, .getfield 56336, .invokeinterface 3329 3, .sipush (-1), .if_icmp .eq 10, .sipush 1, .goto 11]
def b1310_10 : List Instr := [.sipush 0, .goto_w 11]
def b1310_11 : List Instr := [.jsr 2]
def b1310_12 : List Instr := [.sipush 0, .istore 7, .goto_w 13]
def b1310_13 : List Instr := [.iload 7, .aload 4, .getfield 56320, .if_icmp .ge 15, .aload 0, .getfield 20515, .getfield 21531, .iload 7, .iaload, .iload 6, .if_icmp .ne 14, .iload 5, .aload 0, .getfield 20515, .getfield 21523, .iload 7, .iaload, .aload 0, .getfield 20499, .iload 7, .invokeinterface 4034 2, .checkcast 55, .getfield 56336, .iadd, .if_icmp .ge 14, .aload 0, .getfield 20515, .getfield 21523, .iload 7, .iaload, .iload 5, .aload 4, .getfield 56336, .iadd, .if_icmp .ge 14, .sipush 1, .jsr 2]
def b1310_14 : List Instr := [.iinc 7 1, .goto 13]
def b1310_15 : List Instr := [.sipush 0, .jsr 2]
/-- TimberHouse$WorkPlans.breaks(ILTimberHouse$WorkPlans$Job;I)Z -/
def m1310 : pm_M := (fun j => [b1310_0, b1310_1, b1310_2, b1310_3, b1310_4, b1310_5, b1310_6, b1310_7, b1310_8, b1310_9, b1310_10, b1310_11, b1310_12, b1310_13, b1310_14, b1310_15].getD j [], fun _ => [], 20, 8)
