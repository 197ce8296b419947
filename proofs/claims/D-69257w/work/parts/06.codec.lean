/-! the pure code of methods: mN: method N = 64 * (number of its class) + place; bN_j: its block j -/
def b1920_0 : List Instr := [.aload 0, .f2i, .aload 0, .sipush 200, .newarray .int, .putfield 30731, .aload 0, .sipush 48, .newarray .int, .putfield 30763, .aload 0, .sipush 28, .newarray .int, .dup, .sipush 0, .sipush 1, .iastore, .dup, .sipush 1, .sipush 1, .iastore, .dup, .sipush 2, .sipush 1, .iastore, .dup, .sipush 3, .sipush 1, .iastore, .dup, .sipush 4, .sipush 1, .iastore, .dup, .sipush 5, .sipush 1, .iastore, .dup, .sipush 6, .sipush 1, .iastore, .dup, .sipush 7, .sipush 1, .iastore, .dup, .sipush 8, .sipush 1, .iastore, .dup, .sipush 9, .sipush 1, .iastore, .dup, .sipush 10, .sipush 1, .iastore, .dup, .sipush 11, .sipush 1, .iastore, .dup, .sipush 12, .sipush 1, .iastore, .dup, .sipush 13, .sipush 1, .iastore, .dup, .sipush 14, .sipush 1, .iastore, .dup, .sipush 15, .sipush 1, .iastore, .dup, .sipush 16, .sipush 1, .iastore, .dup, .sipush 17, .sipush 1, .iastore, .dup, .sipush 18, .sipush 1, .iastore, .dup, .sipush 19, .sipush 1, .iastore, .dup, .sipush 20, .sipush 1, .iastore, .dup, .sipush 21, .sipush 1, .iastore, .dup, .sipush 22, .sipush 1, .iastore, .dup, .sipush 23, .sipush 1, .iastore, .dup, .sipush 24, .sipush 1, .iastore, .dup, .sipush 25, .sipush 1, .iastore, .dup, .sipush 26, .sipush 1, .iastore, .dup, .sipush 27, .sipush 1, .iastore, .putfield 30771, .aload 0, .sipush 35, .newarray .int, .dup, .sipush 0, .sipush 115, .iastore, .dup, .sipush 1, .sipush 105, .iastore, .dup, .sipush 2, .sipush 122, .iastore, .dup, .sipush 3, .sipush 101, .iastore, .dup, .sipush 4, .sipush 0, .iastore, .dup, .sipush 5, .sipush 102, .iastore, .dup, .sipush 6, .sipush 111, .iastore, .dup, .sipush 7, .sipush 114, .iastore, .dup, .sipush 8, .sipush 99, .iastore, .dup, .sipush 9, .sipush 101, .iastore, .dup, .sipush 10, .sipush 101, .iastore, .dup, .sipush 11, .sipush 100, .iastore, .dup, .sipush 12, .sipush 103, .iastore, .dup, .sipush 13, .sipush 101, .iastore, .dup, .sipush 14, .sipush 0, .iastore, .dup, .sipush 15, .sipush 101, .iastore, .dup, .sipush 16, .sipush 110, .iastore, .dup, .sipush 17, .sipush 100, .iastore, .dup, .sipush 18, .sipush 0, .iastore, .dup, .sipush 19, .sipush 0, .iastore, .dup, .sipush 20, .sipush 115, .iastore, .dup, .sipush 21, .sipush 105, .iastore, .dup, .sipush 22, .sipush 100, .iastore, .dup, .sipush 23, .sipush 101, .iastore, .dup, .sipush 24, .sipush 0, .iastore, .dup, .sipush 25, .sipush 114, .iastore, .dup, .sipush 26, .sipush 111, .iastore, .dup, .sipush 27, .sipush 119, .iastore, .dup, .sipush 28, .sipush 0, .iastore, .dup, .sipush 29, .sipush 0, .iastore, .dup, .sipush 30, .sipush 116, .iastore, .dup, .sipush 31, .sipush 104, .iastore, .dup, .sipush 32, .sipush 105, .iastore, .dup, .sipush 33, .sipush 110, .iastore, .dup, .sipush 34, .sipush 0, .iastore, .putfield 30779, .aload 0, .bipush 100, .putfield 30785, .aload 0, .bipush 2, .putfield 30793, .aload 0, .sipush (-1), .putfield 30800, .aload 0, .sipush 4, .newarray .int, .putfield 30827, .aload 0, .sipush 32, .newarray .int, .putfield 30843, .aload 0, .sipush 32, .newarray .int, .putfield 30851, .aload 0, .sipush 24, .newarray .int, .putfield 30867, .aload 0, .sipush 6, .newarray .int, .putfield 30875, .return_]
/-- TimberHouseModel$Nails.<init>()V -/
def m1920 : pm_M := (fun j => [b1920_0].getD j [], fun _ => [], 30, 1)
def b1921_0 : List Instr := [.aload 0, .sipush 0, .putfield 30720, .iload 1, .sipush 32, .if_icmp .lt 1, .iload 1, .sipush 126, .if_icmp .gt 1, .aload 0, .getfield 30736, .sipush 200, .if_icmp .ge 1, .sipush 1, .goto 2]
def b1921_1 : List Instr := [.sipush 0, .goto_w 2]
def b1921_2 : List Instr := [.istore 2, .iload 2, .ifCond .eq 3, .aload 0, .getfield 30731, .aload 0, .getfield 30736, .iload 1, .iastore, .aload 0, .dup, .getfield 30736, .sipush 1, .iadd, .putfield 30736, .goto_w 3]
def b1921_3 : List Instr := [.iload 2, .jsr 2]
/-- TimberHouseModel$Nails.unit(I)Z -/
def m1921 : pm_M := (fun j => [b1921_0, b1921_1, b1921_2, b1921_3].getD j [], fun _ => [], 30, 3)
def b1922_0 : List Instr := [.aload 0, .getfield 30720, .jsr 0]
/-- TimberHouseModel$Nails.thrown()I -/
def m1922 : pm_M := (fun j => [b1922_0].getD j [], fun _ => [], 30, 1)
def b1923_0 : List Instr := [.aload 0, .sipush 0, .putfield 30720, .aload 0, .sipush 0, .putfield 30744, .aload 0, .sipush (-1), .putfield 30752, .sipush 0, .istore 1, .sipush 1, .istore 2, .goto_w 1]
def b1923_1 : List Instr := [.iload 2, .ifCond .eq 13, .aload 0, .getfield 30752, .sipush (-1), .if_icmp .ne 13, .aload 0, .invokeinterface 1924 1, .invokeinterface 1925 1, .istore 3, .aload 0, .iload 3, .sipush (-1), .if_icmp .eq 2, .sipush 1, .goto 3]
def b1923_2 : List Instr := [.sipush 0, .goto_w 3]
def b1923_3 : List Instr := [.invokeinterface 1926 2, .aload 0, .aload 0, .invokeinterface 1924 1, .sipush 32, .if_icmp .ne 4, .sipush 1, .goto 5]
def b1923_4 : List Instr := [.sipush 0, .goto_w 5]
def b1923_5 : List Instr := [.invokeinterface 1926 2, .aload 0, .invokeinterface 1927 1, .istore 4, .aload 0, .aload 0, .invokeinterface 1924 1, .sipush 32, .if_icmp .ne 6, .sipush 1, .goto 7]
def b1923_6 : List Instr := [.sipush 0, .goto_w 7]
def b1923_7 : List Instr := [.invokeinterface 1926 2, .aload 0, .getfield 30752, .sipush (-1), .if_icmp .ne 8, .aload 0, .invokeinterface 1930 1, .goto 9]
def b1923_8 : List Instr := [.sipush 0, .goto_w 9]
def b1923_9 : List Instr := [.istore 5, .aload 0, .getfield 30763, .sipush 3, .iload 1, .imul, .iload 3, .iastore, .aload 0, .getfield 30763, .sipush 3, .iload 1, .imul, .sipush 1, .iadd, .iload 4, .iastore, .aload 0, .getfield 30763, .sipush 3, .iload 1, .imul, .sipush 2, .iadd, .iload 5, .iastore, .iinc 1 1, .iload 1, .sipush 16, .if_icmp .ge 10, .aload 0, .invokeinterface 1924 1, .sipush 59, .if_icmp .ne 10, .sipush 1, .goto 11]
def b1923_10 : List Instr := [.sipush 0, .goto_w 11]
def b1923_11 : List Instr := [.istore 2, .iload 2, .ifCond .eq 12, .aload 0, .getfield 30752, .sipush (-1), .if_icmp .ne 12, .aload 0, .dup, .getfield 30744, .sipush 1, .iadd, .putfield 30744, .goto_w 12]
def b1923_12 : List Instr := [.goto 1]
def b1923_13 : List Instr := [.aload 0, .getfield 30752, .sipush (-1), .if_icmp .ne 14, .aload 0, .getfield 30744, .aload 0, .getfield 30736, .if_icmp .ge 14, .aload 0, .aload 0, .getfield 30744, .putfield 30752, .goto_w 14]
def b1923_14 : List Instr := [.aload 0, .sipush 0, .putfield 30736, .aload 0, .getfield 30752, .sipush (-1), .if_icmp .eq 15, .sipush (-1), .aload 0, .getfield 30752, .isub, .jsr 0]
def b1923_15 : List Instr := [.sipush 0, .istore 3, .goto_w 16]
def b1923_16 : List Instr := [.iload 3, .iload 1, .if_icmp .ge 17, .aload 0, .getfield 30771, .sipush 7, .aload 0, .getfield 30763, .sipush 3, .iload 3, .imul, .iaload, .imul, .aload 0, .getfield 30763, .sipush 3, .iload 3, .imul, .sipush 1, .iadd, .iaload, .iadd, .aload 0, .getfield 30763, .sipush 3, .iload 3, .imul, .sipush 2, .iadd, .iaload, .iastore, .iinc 3 1, .goto 16]
def b1923_17 : List Instr := [.iload 1, .jsr 0]
/-- TimberHouseModel$Nails.read()I -/
def m1923 : pm_M := (fun j => [b1923_0, b1923_1, b1923_2, b1923_3, b1923_4, b1923_5, b1923_6, b1923_7, b1923_8, b1923_9, b1923_10, b1923_11, b1923_12, b1923_13, b1923_14, b1923_15, b1923_16, b1923_17].getD j [], fun _ => [], 30, 6)
def b1924_0 : List Instr := [.aload 0, .getfield 30744, .aload 0, .getfield 30736, .if_icmp .ge 1, .aload 0, .getfield 30731, .aload 0, .getfield 30744, .iaload, .goto 2]
def b1924_1 : List Instr := [.sipush (-1), .goto_w 2]
def b1924_2 : List Instr := [.jsr 0]
/-- TimberHouseModel$Nails.now()I -/
def m1924 : pm_M := (fun j => [b1924_0, b1924_1, b1924_2].getD j [], fun _ => [], 30, 1)
def b1925_0 : List Instr := [.iload 0, .sipush 110, .if_icmp .ne 1, .sipush 0, .goto 5]
def b1925_1 : List Instr := [.iload 0, .sipush 115, .if_icmp .ne 2, .sipush 1, .goto 5]
def b1925_2 : List Instr := [.iload 0, .sipush 98, .if_icmp .ne 3, .sipush 2, .goto 5]
def b1925_3 : List Instr := [.iload 0, .sipush 100, .if_icmp .ne 4, .sipush 3, .goto 5]
def b1925_4 : List Instr := [.sipush (-1), .goto_w 5]
def b1925_5 : List Instr := [.jsr 0]
/-- TimberHouseModel$Nails.kindOf(I)I -/
def m1925 : pm_M := (fun j => [b1925_0, b1925_1, b1925_2, b1925_3, b1925_4, b1925_5].getD j [], fun _ => [], 0, 1)
def b1926_0 : List Instr := [.aload 0, .getfield 30752, .sipush (-1), .if_icmp .ne 1, .iload 1, .ifCond .ne 1, .aload 0, .aload 0, .getfield 30744, .putfield 30752, .goto_w 1]
def b1926_1 : List Instr := [.aload 0, .getfield 30752, .sipush (-1), .if_icmp .ne 2, .aload 0, .dup, .getfield 30744, .sipush 1, .iadd, .putfield 30744, .goto_w 2]
def b1926_2 : List Instr := [.return_]
/-- TimberHouseModel$Nails.must(Z)V -/
def m1926 : pm_M := (fun j => [b1926_0, b1926_1, b1926_2].getD j [], fun _ => [], 30, 2)
def b1927_0 : List Instr := [.aload 0, .getfield 30744, .istore 1, .goto_w 1]
def b1927_1 : List Instr := [.aload 0, .getfield 30752, .sipush (-1), .if_icmp .ne 7, .aload 0, .iload 1, .invokeinterface 1928 2, .sipush (-1), .if_icmp .ne 7, .sipush 0, .istore 2, .sipush 0, .istore 3, .goto_w 2]
def b1927_2 : List Instr := [.iload 3, .sipush 7, .if_icmp .ge 6, .iload 2, .ifCond .ne 3, .aload 0, .invokeinterface 1924 1, .sipush (-1), .if_icmp .eq 4, .aload 0, .iload 3, .iload 1, .aload 0, .invokeinterface 1924 1, .invokeinterface 1929 4, .ifCond .eq 4, .goto_w 3]
def b1927_3 : List Instr := [.sipush 1, .goto 5]
def b1927_4 : List Instr := [.sipush 0, .goto_w 5]
def b1927_5 : List Instr := [.istore 2, .iinc 3 1, .goto 2]
def b1927_6 : List Instr := [.aload 0, .iload 2, .invokeinterface 1926 2, .goto 1]
def b1927_7 : List Instr := [.aload 0, .getfield 30752, .sipush (-1), .if_icmp .ne 8, .aload 0, .iload 1, .invokeinterface 1928 2, .goto 9]
def b1927_8 : List Instr := [.sipush 0, .goto_w 9]
def b1927_9 : List Instr := [.jsr 0]
/-- TimberHouseModel$Nails.word()I -/
def m1927 : pm_M := (fun j => [b1927_0, b1927_1, b1927_2, b1927_3, b1927_4, b1927_5, b1927_6, b1927_7, b1927_8, b1927_9].getD j [], fun _ => [], 30, 4)
def b1928_0 : List Instr := [.sipush (-1), .istore 2, .sipush 0, .istore 3, .goto_w 1]
def b1928_1 : List Instr := [.iload 3, .sipush 7, .if_icmp .ge 11, .aload 0, .getfield 30744, .iload 1, .isub, .sipush 5, .if_icmp .eq 2, .aload 0, .getfield 30779, .sipush 5, .iload 3, .imul, .aload 0, .getfield 30744, .iadd, .iload 1, .isub, .iaload, .ifCond .ne 3, .goto_w 2]
def b1928_2 : List Instr := [.sipush 1, .goto 4]
def b1928_3 : List Instr := [.sipush 0, .goto_w 4]
def b1928_4 : List Instr := [.istore 4, .sipush 0, .istore 5, .goto_w 5]
def b1928_5 : List Instr := [.iload 5, .aload 0, .getfield 30744, .iload 1, .isub, .if_icmp .ge 8, .iload 4, .ifCond .eq 6, .aload 0, .getfield 30779, .sipush 5, .iload 3, .imul, .iload 5, .iadd, .iaload, .aload 0, .getfield 30731, .iload 1, .iload 5, .iadd, .iaload, .if_icmp .ne 6, .sipush 1, .goto 7]
def b1928_6 : List Instr := [.sipush 0, .goto_w 7]
def b1928_7 : List Instr := [.istore 4, .iinc 5 1, .goto 5]
def b1928_8 : List Instr := [.iload 4, .ifCond .eq 9, .iload 3, .goto 10]
def b1928_9 : List Instr := [.iload 2, .goto_w 10]
def b1928_10 : List Instr := [.istore 2, .iinc 3 1, .goto 1]
def b1928_11 : List Instr := [.iload 2, .jsr 0]
/-- TimberHouseModel$Nails.whole(I)I -/
def m1928 : pm_M := (fun j => [b1928_0, b1928_1, b1928_2, b1928_3, b1928_4, b1928_5, b1928_6, b1928_7, b1928_8, b1928_9, b1928_10, b1928_11].getD j [], fun _ => [], 30, 6)
def b1929_0 : List Instr := [.sipush 1, .istore 4, .sipush 0, .istore 5, .goto_w 1]
def b1929_1 : List Instr := [.iload 5, .aload 0, .getfield 30744, .iload 2, .isub, .if_icmp .ge 4, .iload 4, .ifCond .eq 2, .aload 0, .getfield 30779, .sipush 5, .iload 1, .imul, .iload 5, .iadd, .iaload, .aload 0, .getfield 30731, .iload 2, .iload 5, .iadd, .iaload, .if_icmp .ne 2, .sipush 1, .goto 3]
def b1929_2 : List Instr := [.sipush 0, .goto_w 3]
def b1929_3 : List Instr := [.istore 4, .iinc 5 1, .goto 1]
def b1929_4 : List Instr := [.iload 4, .ifCond .eq 5, .aload 0, .getfield 30744, .iload 2, .isub, .sipush 5, .if_icmp .ge 5, .aload 0, .getfield 30779, .sipush 5, .iload 1, .imul, .aload 0, .getfield 30744, .iadd, .iload 2, .isub, .iaload, .iload 3, .if_icmp .ne 5, .sipush 1, .goto 6]
def b1929_5 : List Instr := [.sipush 0, .goto_w 6]
def b1929_6 : List Instr := [.jsr 2]
/-- TimberHouseModel$Nails.may(III)Z -/
def m1929 : pm_M := (fun j => [b1929_0, b1929_1, b1929_2, b1929_3, b1929_4, b1929_5, b1929_6].getD j [], fun _ => [], 30, 6)
def b1930_0 : List Instr := [.aload 0, .getfield 30744, .istore 1, .sipush 0, .istore 2, .sipush 0, .istore 3, .aload 0, .aload 0, .invokeinterface 1931 1, .invokeinterface 1926 2, .aload 0, .getfield 30752, .sipush (-1), .if_icmp .eq 1, .sipush 0, .jsr 0]
def b1930_1 : List Instr := [.aload 0, .getfield 30731, .iload 1, .iaload, .sipush 48, .isub, .istore 2, .sipush 1, .istore 3, .goto_w 2]
def b1930_2 : List Instr := [.iload 3, .sipush 4, .if_icmp .ge 3, .aload 0, .invokeinterface 1931 1, .ifCond .eq 3, .sipush 10, .iload 2, .imul, .aload 0, .invokeinterface 1924 1, .iadd, .sipush 48, .isub, .istore 2, .aload 0, .dup, .getfield 30744, .sipush 1, .iadd, .putfield 30744, .iinc 3 1, .goto 2]
def b1930_3 : List Instr := [.iload 2, .ifCond .ne 4, .aload 0, .iload 1, .putfield 30752, .goto_w 4]
def b1930_4 : List Instr := [.iload 2, .jsr 0]
/-- TimberHouseModel$Nails.number()I -/
def m1930 : pm_M := (fun j => [b1930_0, b1930_1, b1930_2, b1930_3, b1930_4].getD j [], fun _ => [], 30, 4)
def b1931_0 : List Instr := [.aload 0, .invokeinterface 1924 1, .sipush 48, .if_icmp .lt 1, .aload 0, .invokeinterface 1924 1, .sipush 57, .if_icmp .gt 1, .sipush 1, .goto 2]
def b1931_1 : List Instr := [.sipush 0, .goto_w 2]
def b1931_2 : List Instr := [.jsr 2]
/-- TimberHouseModel$Nails.isDigit()Z -/
def m1931 : pm_M := (fun j => [b1931_0, b1931_1, b1931_2].getD j [], fun _ => [], 30, 1)
def b1932_0 : List Instr := [.aload 0, .iload 1, .invokeinterface 1933 1, .ifCond .eq 1, .iload 2, .i2l, .bipush 0, .bipush 6, .invokeinterface 1934 3, .ifCond .eq 1, .sipush 0, .goto 2]
def b1932_1 : List Instr := [.sipush 1, .goto_w 2]
def b1932_2 : List Instr := [.putfield 30720, .aload 0, .getfield 30720, .ifCond .le 3, .sipush 0, .goto 4]
def b1932_3 : List Instr := [.aload 0, .getfield 30771, .sipush 7, .iload 1, .imul, .iload 2, .iadd, .iaload, .goto_w 4]
def b1932_4 : List Instr := [.jsr 0]
/-- TimberHouseModel$Nails.rule(II)I -/
def m1932 : pm_M := (fun j => [b1932_0, b1932_1, b1932_2, b1932_3, b1932_4].getD j [], fun _ => [], 30, 3)
def b1933_0 : List Instr := [.iload 0, .ifCond .lt 1, .iload 0, .sipush 4, .if_icmp .ge 1, .sipush 1, .goto 2]
def b1933_1 : List Instr := [.sipush 0, .goto_w 2]
def b1933_2 : List Instr := [.jsr 2]
/-- TimberHouseModel$Nails.isFour(I)Z -/
def m1933 : pm_M := (fun j => [b1933_0, b1933_1, b1933_2].getD j [], fun _ => [], 0, 1)
def b1934_0 : List Instr := [.lload 0, .lload 2, .lcmp, .ifCond .lt 1, .lload 0, .lload 4, .lcmp, .ifCond .gt 1, .sipush 1, .goto 2]
def b1934_1 : List Instr := [.sipush 0, .goto_w 2]
def b1934_2 : List Instr := [.jsr 2]
/-- TimberHouseModel$Nails.isIn(JJJ)Z -/
def m1934 : pm_M := (fun j => [b1934_0, b1934_1, b1934_2].getD j [], fun _ => [], 0, 6)
def b1935_0 : List Instr := [.aload 0, .iload 1, .ifCond .lt 1, .iload 1, .sipush 1, .if_icmp .le 2, .goto_w 1]
def b1935_1 : List Instr := [.sipush 1, .goto 4]
def b1935_2 : List Instr := [.iload 2, .i2l, .bipush 1, .iload 1, .i2l, .lsub, .bipush 100, .invokeinterface 1934 3, .ifCond .eq 3, .sipush 0, .goto 4]
def b1935_3 : List Instr := [.sipush 2, .goto_w 4]
def b1935_4 : List Instr := [.putfield 30720, .aload 0, .getfield 30720, .ifCond .ne 5, .iload 1, .ifCond .ne 5, .aload 0, .iload 2, .i2l, .putfield 30785, .goto 6]
def b1935_5 : List Instr := [.aload 0, .getfield 30720, .ifCond .ne 6, .aload 0, .iload 2, .i2l, .putfield 30793, .goto_w 6]
def b1935_6 : List Instr := [.return_]
/-- TimberHouseModel$Nails.set(II)V -/
def m1935 : pm_M := (fun j => [b1935_0, b1935_1, b1935_2, b1935_3, b1935_4, b1935_5, b1935_6].getD j [], fun _ => [], 30, 3)
def b1936_0 : List Instr := [.iload 2, .i2l, .bipush 1, .bipush 1000, .invokeinterface 1934 3, .ifCond .eq 1, .iload 3, .i2l, .bipush 1, .bipush 1000, .invokeinterface 1934 3, .ifCond .eq 1, .iload 4, .i2l, .bipush 0, .bipush 90, .invokeinterface 1934 3, .ifCond .eq 1, .sipush 1, .goto 2]
def b1936_1 : List Instr := [.sipush 0, .goto_w 2]
def b1936_2 : List Instr := [.istore 6, .aload 0, .iload 1, .invokeinterface 1933 1, .ifCond .eq 3, .iload 5, .ifCond .lt 3, .iload 5, .sipush 1, .if_icmp .le 4, .goto_w 3]
def b1936_3 : List Instr := [.sipush 1, .goto 6]
def b1936_4 : List Instr := [.iload 6, .ifCond .eq 5, .sipush 0, .goto 6]
def b1936_5 : List Instr := [.sipush 2, .goto_w 6]
def b1936_6 : List Instr := [.putfield 30720, .aload 0, .getfield 30720, .ifCond .le 7, .bipush 0, .lreturn]
def b1936_7 : List Instr := [.sipush 0, .istore 7, .sipush 1, .istore 8, .goto_w 8]
def b1936_8 : List Instr := [.iload 8, .sipush 4, .if_icmp .ge 11, .aload 0, .iload 1, .iload 8, .iload 2, .i2l, .iload 3, .i2l, .invokeinterface 1937 5, .aload 0, .iload 1, .iload 7, .iload 2, .i2l, .iload 3, .i2l, .invokeinterface 1937 5, .lcmp, .ifCond .ge 9, .iload 8, .goto 10]
def b1936_9 : List Instr := [.iload 7, .goto_w 10]
def b1936_10 : List Instr := [.istore 7, .iinc 8 1, .goto 8]
def b1936_11 : List Instr := [.iload 5, .sipush 1, .if_icmp .ne 12, .iload 7, .i2l, .goto 13]
def b1936_12 : List Instr := [.aload 0, .iload 1, .iload 7, .iload 2, .i2l, .iload 3, .i2l, .invokeinterface 1937 5, .bipush 200, .iload 4, .i2l, .lsub, .lmul, .bipush 200, .ldiv, .aload 0, .getfield 30785, .lmul, .bipush 100, .ldiv, .goto_w 13]
def b1936_13 : List Instr := [.lreturn]
/-- TimberHouseModel$Nails.holds(IIIII)J -/
def m1936 : pm_M := (fun j => [b1936_0, b1936_1, b1936_2, b1936_3, b1936_4, b1936_5, b1936_6, b1936_7, b1936_8, b1936_9, b1936_10, b1936_11, b1936_12, b1936_13].getD j [], fun _ => [], 30, 9)
def b1937_0 : List Instr := [.aload 0, .getfield 30771, .sipush 7, .iload 1, .imul, .iaload, .i2l, .lstore 7, .aload 0, .getfield 30771, .sipush 7, .iload 1, .imul, .sipush 1, .iadd, .iaload, .i2l, .lstore 9, .iload 2, .ifCond .ne 1, .lload 9, .lload 3, .lmul, .lload 7, .lmul, .goto 4]
def b1937_1 : List Instr := [.iload 2, .sipush 1, .if_icmp .ne 2, .lload 9, .lload 5, .lmul, .lload 7, .lmul, .goto 4]
def b1937_2 : List Instr := [.iload 2, .sipush 2, .if_icmp .ne 3, .lload 9, .lload 3, .lload 5, .ladd, .lmul, .lload 7, .lmul, .bipush 2, .ldiv, .goto 4]
def b1937_3 : List Instr := [.lload 9, .lload 7, .lmul, .lload 7, .lmul, .bipush 4, .lmul, .goto_w 4]
def b1937_4 : List Instr := [.lreturn]
/-- TimberHouseModel$Nails.formula(IIJJ)J -/
def m1937 : pm_M := (fun j => [b1937_0, b1937_1, b1937_2, b1937_3, b1937_4].getD j [], fun _ => [], 30, 11)
def b1938_0 : List Instr := [.aload 0, .iload 1, .i2l, .bipush 0, .bipush 1000, .invokeinterface 1934 3, .ifCond .eq 1, .lload 2, .bipush 0, .bipush 1000000000000, .invokeinterface 1934 3, .ifCond .eq 1, .sipush 0, .goto 2]
def b1938_1 : List Instr := [.sipush 1, .goto_w 2]
def b1938_2 : List Instr := [.putfield 30720, .aload 0, .getfield 30720, .ifCond .le 3, .bipush 0, .goto 4]
def b1938_3 : List Instr := [.aload 0, .iload 1, .i2l, .lload 2, .invokeinterface 1939 3, .goto_w 4]
def b1938_4 : List Instr := [.lreturn]
/-- TimberHouseModel$Nails.together(IJ)J -/
def m1938 : pm_M := (fun j => [b1938_0, b1938_1, b1938_2, b1938_3, b1938_4].getD j [], fun _ => [], 30, 4)
def b1939_0 : List Instr := [.bipush 100, .aload 0, .getfield 30793, .lload 1, .bipush 1, .lsub, .lmul, .lsub, .lstore 5, .lload 5, .bipush 50, .lcmp, .ifCond .ge 1, .bipush 50, .goto 2]
def b1939_1 : List Instr := [.lload 5, .goto_w 2]
def b1939_2 : List Instr := [.lstore 5, .lload 1, .lload 3, .lmul, .lload 5, .lmul, .bipush 100, .ldiv, .lreturn]
/-- TimberHouseModel$Nails.all(JJ)J -/
def m1939 : pm_M := (fun j => [b1939_0, b1939_1, b1939_2].getD j [], fun _ => [], 30, 7)
def b1940_0 : List Instr := [.aload 0, .lload 1, .bipush 0, .bipush 1000000000000, .invokeinterface 1934 3, .ifCond .eq 1, .lload 3, .bipush 0, .bipush 1000000000000, .invokeinterface 1934 3, .ifCond .eq 1, .sipush 0, .goto 2]
def b1940_1 : List Instr := [.sipush 1, .goto_w 2]
def b1940_2 : List Instr := [.putfield 30720, .sipush 1, .istore 5, .goto_w 3]
def b1940_3 : List Instr := [.aload 0, .getfield 30720, .ifCond .ne 4, .iload 5, .sipush 100, .if_icmp .gt 4, .aload 0, .iload 5, .i2l, .lload 3, .invokeinterface 1939 3, .lload 1, .lcmp, .ifCond .ge 4, .iinc 5 1, .goto 3]
def b1940_4 : List Instr := [.aload 0, .getfield 30720, .ifCond .le 5, .sipush 0, .goto 7]
def b1940_5 : List Instr := [.iload 5, .sipush 100, .if_icmp .le 6, .sipush (-1), .goto 7]
def b1940_6 : List Instr := [.iload 5, .goto_w 7]
def b1940_7 : List Instr := [.jsr 0]
/-- TimberHouseModel$Nails.count(JJ)I -/
def m1940 : pm_M := (fun j => [b1940_0, b1940_1, b1940_2, b1940_3, b1940_4, b1940_5, b1940_6, b1940_7].getD j [], fun _ => [], 30, 6)
def b1941_0 : List Instr := [.iload 2, .i2l, .bipush 1, .bipush 100000, .invokeinterface 1934 3, .ifCond .eq 1, .iload 3, .i2l, .bipush 1, .bipush 100000, .invokeinterface 1934 3, .ifCond .eq 1, .iload 4, .i2l, .bipush 1, .bipush 100, .invokeinterface 1934 3, .ifCond .eq 1, .sipush 1, .goto 2]
def b1941_1 : List Instr := [.sipush 0, .goto_w 2]
def b1941_2 : List Instr := [.istore 5, .aload 0, .iload 1, .invokeinterface 1933 1, .ifCond .ne 3, .sipush 1, .goto 5]
def b1941_3 : List Instr := [.iload 5, .ifCond .eq 4, .sipush 0, .goto 5]
def b1941_4 : List Instr := [.sipush 2, .goto_w 5]
def b1941_5 : List Instr := [.putfield 30720, .aload 0, .getfield 30720, .ifCond .le 6, .sipush 0, .jsr 2]
def b1941_6 : List Instr := [.iload 2, .i2l, .aload 0, .iload 1, .sipush 3, .invokeinterface 1942 3, .aload 0, .iload 1, .sipush 4, .invokeinterface 1942 3, .invokeinterface 1943 3, .lstore 6, .iload 3, .i2l, .aload 0, .iload 1, .sipush 2, .invokeinterface 1942 3, .aload 0, .iload 1, .sipush 5, .invokeinterface 1942 3, .invokeinterface 1943 3, .lstore 8, .lload 6, .lload 8, .lmul, .iload 4, .i2l, .lcmp, .ifCond .ge 7, .sipush 0, .jsr 2]
def b1941_7 : List Instr := [.aload 0, .iload 1, .putfield 30800, .aload 0, .iload 4, .putfield 30808, .aload 0, .lload 6, .l2i, .putfield 30816, .aload 0, .getfield 30827, .sipush 0, .aload 0, .iload 1, .sipush 3, .invokeinterface 1942 3, .l2i, .iastore, .aload 0, .getfield 30827, .sipush 1, .aload 0, .iload 1, .sipush 4, .invokeinterface 1942 3, .l2i, .iastore, .aload 0, .getfield 30827, .sipush 2, .aload 0, .iload 1, .sipush 2, .invokeinterface 1942 3, .l2i, .iastore, .aload 0, .getfield 30827, .sipush 3, .aload 0, .iload 1, .sipush 5, .invokeinterface 1942 3, .l2i, .iastore, .sipush 1, .jsr 2]
/-- TimberHouseModel$Nails.pattern(IIII)Z -/
def m1941 : pm_M := (fun j => [b1941_0, b1941_1, b1941_2, b1941_3, b1941_4, b1941_5, b1941_6, b1941_7].getD j [], fun _ => [], 30, 10)
def b1942_0 : List Instr := [.aload 0, .getfield 30771, .sipush 7, .iload 1, .imul, .iload 2, .iadd, .iaload, .i2l, .aload 0, .getfield 30771, .sipush 7, .iload 1, .imul, .iaload, .i2l, .lmul, .lreturn]
/-- TimberHouseModel$Nails.space(II)J -/
def m1942 : pm_M := (fun j => [b1942_0].getD j [], fun _ => [], 30, 3)
def b1943_0 : List Instr := [.lload 0, .bipush 2, .lload 2, .lmul, .lsub, .lstore 6, .lload 6, .bipush 0, .lcmp, .ifCond .ge 1, .bipush 0, .goto 2]
def b1943_1 : List Instr := [.lload 6, .lload 4, .ldiv, .bipush 1, .ladd, .goto_w 2]
def b1943_2 : List Instr := [.lreturn]
/-- TimberHouseModel$Nails.fits(JJJ)J -/
def m1943 : pm_M := (fun j => [b1943_0, b1943_1, b1943_2].getD j [], fun _ => [], 0, 8)
def b1944_0 : List Instr := [.aload 0, .aload 0, .getfield 30800, .sipush (-1), .if_icmp .ne 1, .sipush 1, .goto 4]
def b1944_1 : List Instr := [.iload 1, .i2l, .bipush 0, .aload 0, .getfield 30808, .i2l, .bipush 1, .lsub, .invokeinterface 1934 3, .ifCond .eq 3, .iload 2, .ifCond .eq 2, .iload 2, .sipush 1, .if_icmp .ne 3, .goto_w 2]
def b1944_2 : List Instr := [.sipush 0, .goto 4]
def b1944_3 : List Instr := [.sipush 2, .goto_w 4]
def b1944_4 : List Instr := [.putfield 30720, .aload 0, .getfield 30720, .ifCond .le 5, .sipush 0, .jsr 0]
def b1944_5 : List Instr := [.iload 2, .ifCond .ne 6, .aload 0, .getfield 30827, .sipush 0, .iaload, .iload 1, .aload 0, .getfield 30816, .irem, .aload 0, .getfield 30827, .sipush 1, .iaload, .imul, .iadd, .goto 7]
def b1944_6 : List Instr := [.aload 0, .getfield 30827, .sipush 2, .iaload, .iload 1, .aload 0, .getfield 30816, .idiv, .aload 0, .getfield 30827, .sipush 3, .iaload, .imul, .iadd, .goto_w 7]
def b1944_7 : List Instr := [.jsr 0]
/-- TimberHouseModel$Nails.at(II)I -/
def m1944 : pm_M := (fun j => [b1944_0, b1944_1, b1944_2, b1944_3, b1944_4, b1944_5, b1944_6, b1944_7].getD j [], fun _ => [], 30, 3)
def b1945_0 : List Instr := [.aload 0, .iload 1, .i2l, .bipush 0, .bipush 100000, .invokeinterface 1934 3, .ifCond .eq 1, .iload 2, .i2l, .bipush 0, .bipush 100000, .invokeinterface 1934 3, .ifCond .ne 2, .goto_w 1]
def b1945_1 : List Instr := [.sipush 1, .goto 4]
def b1945_2 : List Instr := [.aload 0, .getfield 30832, .sipush 32, .if_icmp .ne 3, .sipush 2, .goto 4]
def b1945_3 : List Instr := [.sipush 0, .goto_w 4]
def b1945_4 : List Instr := [.putfield 30720, .aload 0, .getfield 30720, .ifCond .le 5, .sipush 0, .jsr 0]
def b1945_5 : List Instr := [.aload 0, .getfield 30843, .aload 0, .getfield 30832, .iload 1, .iastore, .aload 0, .getfield 30851, .aload 0, .getfield 30832, .iload 2, .iastore, .aload 0, .dup, .getfield 30832, .sipush 1, .iadd, .putfield 30832, .aload 0, .getfield 30832, .jsr 0]
/-- TimberHouseModel$Nails.place(II)I -/
def m1945 : pm_M := (fun j => [b1945_0, b1945_1, b1945_2, b1945_3, b1945_4, b1945_5].getD j [], fun _ => [], 30, 3)
def b1946_0 : List Instr := [.aload 0, .sipush 0, .putfield 30720, .aload 0, .sipush 0, .putfield 30832, .return_]
/-- TimberHouseModel$Nails.clear()V -/
def m1946 : pm_M := (fun j => [b1946_0].getD j [], fun _ => [], 30, 1)
def b1947_0 : List Instr := [.aload 0, .iload 1, .invokeinterface 1933 1, .ifCond .ne 1, .sipush 1, .goto 3]
def b1947_1 : List Instr := [.iload 2, .i2l, .bipush 1, .bipush 100000, .invokeinterface 1934 3, .ifCond .eq 2, .iload 3, .i2l, .bipush 1, .bipush 100000, .invokeinterface 1934 3, .ifCond .eq 2, .sipush 0, .goto 3]
def b1947_2 : List Instr := [.sipush 2, .goto_w 3]
def b1947_3 : List Instr := [.putfield 30720, .aload 0, .getfield 30720, .ifCond .le 4, .sipush 0, .jsr 0]
def b1947_4 : List Instr := [.aload 0, .iload 1, .sipush 3, .invokeinterface 1942 3, .lstore 4, .aload 0, .iload 1, .sipush 2, .invokeinterface 1942 3, .lstore 6, .aload 0, .iload 1, .sipush 4, .invokeinterface 1942 3, .lstore 8, .sipush 0, .istore 10, .goto_w 5]
def b1947_5 : List Instr := [.iload 10, .aload 0, .getfield 30832, .if_icmp .ge 8, .aload 0, .getfield 30843, .iload 10, .iaload, .i2l, .lload 4, .lcmp, .ifCond .lt 6, .aload 0, .getfield 30843, .iload 10, .iaload, .i2l, .iload 2, .i2l, .lload 4, .lsub, .lcmp, .ifCond .gt 6, .aload 0, .getfield 30851, .iload 10, .iaload, .i2l, .lload 6, .lcmp, .ifCond .lt 6, .aload 0, .getfield 30851, .iload 10, .iaload, .i2l, .iload 3, .i2l, .lload 6, .lsub, .lcmp, .ifCond .le 7, .goto_w 6]
def b1947_6 : List Instr := [.sipush 1, .iload 10, .iadd, .jsr 0]
def b1947_7 : List Instr := [.iinc 10 1, .goto 5]
def b1947_8 : List Instr := [.sipush 0, .istore 10, .goto_w 9]
def b1947_9 : List Instr := [.iload 10, .aload 0, .getfield 30832, .if_icmp .ge 13, .iload 10, .sipush 1, .iadd, .istore 11, .goto_w 10]
def b1947_10 : List Instr := [.iload 11, .aload 0, .getfield 30832, .if_icmp .ge 12, .aload 0, .getfield 30843, .iload 10, .iaload, .aload 0, .getfield 30843, .iload 11, .iaload, .isub, .i2l, .lstore 12, .aload 0, .getfield 30851, .iload 10, .iaload, .aload 0, .getfield 30851, .iload 11, .iaload, .isub, .i2l, .lstore 14, .lload 12, .lload 12, .lmul, .lload 14, .lload 14, .lmul, .ladd, .lload 8, .lload 8, .lmul, .lcmp, .ifCond .ge 11, .sipush 100, .sipush 32, .iload 10, .imul, .iadd, .iload 11, .iadd, .jsr 0]
def b1947_11 : List Instr := [.iinc 11 1, .goto 10]
def b1947_12 : List Instr := [.iinc 10 1, .goto 9]
def b1947_13 : List Instr := [.sipush 0, .jsr 0]
/-- TimberHouseModel$Nails.keeps(III)I -/
def m1947 : pm_M := (fun j => [b1947_0, b1947_1, b1947_2, b1947_3, b1947_4, b1947_5, b1947_6, b1947_7, b1947_8, b1947_9, b1947_10, b1947_11, b1947_12, b1947_13].getD j [], fun _ => [], 30, 16)
def b1948_0 : List Instr := [.iload 1, .invokeinterface 1949 1, .ifCond .eq 2, .iload 2, .invokeinterface 1949 1, .ifCond .eq 2, .iload 3, .invokeinterface 1949 1, .ifCond .eq 2, .iload 4, .invokeinterface 1949 1, .ifCond .eq 2, .iload 1, .iload 3, .if_icmp .ne 1, .iload 2, .iload 4, .if_icmp .eq 2, .goto_w 1]
def b1948_1 : List Instr := [.iload 5, .i2l, .bipush 1, .bipush 10000, .invokeinterface 1934 3, .ifCond .eq 2, .sipush 1, .goto 3]
def b1948_2 : List Instr := [.sipush 0, .goto_w 3]
def b1948_3 : List Instr := [.istore 6, .aload 0, .iload 6, .ifCond .ne 4, .sipush 1, .goto 6]
def b1948_4 : List Instr := [.aload 0, .getfield 30856, .sipush 6, .if_icmp .ne 5, .sipush 2, .goto 6]
def b1948_5 : List Instr := [.sipush 0, .goto_w 6]
def b1948_6 : List Instr := [.putfield 30720, .aload 0, .getfield 30720, .ifCond .le 7, .sipush 0, .jsr 0]
def b1948_7 : List Instr := [.aload 0, .getfield 30867, .sipush 4, .aload 0, .getfield 30856, .imul, .iload 1, .iastore, .aload 0, .getfield 30867, .sipush 4, .aload 0, .getfield 30856, .imul, .sipush 1, .iadd, .iload 2, .iastore, .aload 0, .getfield 30867, .sipush 4, .aload 0, .getfield 30856, .imul, .sipush 2, .iadd, .iload 3, .iastore, .aload 0, .getfield 30867, .sipush 4, .aload 0, .getfield 30856, .imul, .sipush 3, .iadd, .iload 4, .iastore, .aload 0, .getfield 30875, .aload 0, .getfield 30856, .iload 5, .iastore, .aload 0, .dup, .getfield 30856, .sipush 1, .iadd, .putfield 30856, .aload 0, .getfield 30856, .sipush 1, .isub, .jsr 0]
/-- TimberHouseModel$Nails.member(IIIII)I -/
def m1948 : pm_M := (fun j => [b1948_0, b1948_1, b1948_2, b1948_3, b1948_4, b1948_5, b1948_6, b1948_7].getD j [], fun _ => [], 30, 7)
def b1949_0 : List Instr := [.iload 0, .i2l, .bipush (-10000), .bipush 10000, .invokeinterface 1934 3, .jsr 2]
/-- TimberHouseModel$Nails.isPlace(I)Z -/
def m1949 : pm_M := (fun j => [b1949_0].getD j [], fun _ => [], 0, 1)
def b1950_0 : List Instr := [.aload 0, .aload 0, .iload 1, .invokeinterface 1951 2, .ifCond .eq 1, .sipush 1, .goto 3]
def b1950_1 : List Instr := [.iload 2, .invokeinterface 1949 1, .ifCond .eq 2, .iload 3, .invokeinterface 1949 1, .ifCond .eq 2, .sipush 0, .goto 3]
def b1950_2 : List Instr := [.sipush 2, .goto_w 3]
def b1950_3 : List Instr := [.putfield 30720, .aload 0, .getfield 30720, .ifCond .ne 4, .aload 0, .iload 1, .iload 2, .i2l, .iload 3, .i2l, .invokeinterface 1952 4, .ifCond .eq 4, .sipush 1, .goto 5]
def b1950_4 : List Instr := [.sipush 0, .goto_w 5]
def b1950_5 : List Instr := [.jsr 2]
/-- TimberHouseModel$Nails.in(III)Z -/
def m1950 : pm_M := (fun j => [b1950_0, b1950_1, b1950_2, b1950_3, b1950_4, b1950_5].getD j [], fun _ => [], 30, 4)
def b1951_0 : List Instr := [.iload 1, .ifCond .lt 1, .iload 1, .aload 0, .getfield 30856, .if_icmp .lt 2, .goto_w 1]
def b1951_1 : List Instr := [.sipush 1, .goto 3]
def b1951_2 : List Instr := [.sipush 0, .goto_w 3]
def b1951_3 : List Instr := [.jsr 2]
/-- TimberHouseModel$Nails.noMember(I)Z -/
def m1951 : pm_M := (fun j => [b1951_0, b1951_1, b1951_2, b1951_3].getD j [], fun _ => [], 30, 2)
def b1952_0 : List Instr := [.aload 0, .getfield 30867, .sipush 4, .iload 1, .imul, .sipush 2, .iadd, .iaload, .aload 0, .getfield 30867, .sipush 4, .iload 1, .imul, .iaload, .isub, .i2l, .lstore 6, .aload 0, .getfield 30867, .sipush 4, .iload 1, .imul, .sipush 3, .iadd, .iaload, .aload 0, .getfield 30867, .sipush 4, .iload 1, .imul, .sipush 1, .iadd, .iaload, .isub, .i2l, .lstore 8, .lload 2, .aload 0, .getfield 30867, .sipush 4, .iload 1, .imul, .iaload, .i2l, .lsub, .lstore 10, .lload 4, .aload 0, .getfield 30867, .sipush 4, .iload 1, .imul, .sipush 1, .iadd, .iaload, .i2l, .lsub, .lstore 12, .lload 6, .lload 6, .lmul, .lload 8, .lload 8, .lmul, .ladd, .lstore 14, .lload 6, .lload 10, .lmul, .lload 8, .lload 12, .lmul, .ladd, .lstore 16, .lload 6, .lload 12, .lmul, .lload 8, .lload 10, .lmul, .lsub, .lstore 18, .lload 16, .bipush 0, .lcmp, .ifCond .lt 1, .lload 16, .lload 14, .lcmp, .ifCond .gt 1, .bipush 4, .lload 18, .lmul, .lload 18, .lmul, .aload 0, .getfield 30875, .iload 1, .iaload, .i2l, .aload 0, .getfield 30875, .iload 1, .iaload, .i2l, .lmul, .lload 14, .lmul, .lcmp, .ifCond .gt 1, .sipush 1, .goto 2]
def b1952_1 : List Instr := [.sipush 0, .goto_w 2]
def b1952_2 : List Instr := [.jsr 2]
/-- TimberHouseModel$Nails.isWithin(IJJ)Z -/
def m1952 : pm_M := (fun j => [b1952_0, b1952_1, b1952_2].getD j [], fun _ => [], 30, 20)
def b1953_0 : List Instr := [.iload 2, .invokeinterface 1949 1, .ifCond .eq 1, .iload 3, .invokeinterface 1949 1, .ifCond .eq 1, .iload 4, .i2l, .bipush 0, .bipush 1000, .invokeinterface 1934 3, .ifCond .eq 1, .iload 5, .i2l, .bipush 0, .bipush 1000, .invokeinterface 1934 3, .ifCond .eq 1, .iload 6, .i2l, .bipush 10, .bipush 1000, .invokeinterface 1934 3, .ifCond .eq 1, .sipush 1, .goto 2]
def b1953_1 : List Instr := [.sipush 0, .goto_w 2]
def b1953_2 : List Instr := [.istore 7, .aload 0, .aload 0, .iload 1, .invokeinterface 1951 2, .ifCond .eq 3, .sipush 1, .goto 5]
def b1953_3 : List Instr := [.iload 7, .ifCond .eq 4, .sipush 0, .goto 5]
def b1953_4 : List Instr := [.sipush 2, .goto_w 5]
def b1953_5 : List Instr := [.putfield 30720, .sipush 0, .istore 8, .sipush 0, .istore 9, .goto_w 6]
def b1953_6 : List Instr := [.aload 0, .getfield 30720, .ifCond .ne 11, .iload 9, .iload 4, .if_icmp .gt 11, .sipush 0, .istore 10, .goto_w 7]
def b1953_7 : List Instr := [.iload 10, .iload 5, .if_icmp .gt 10, .aload 0, .iload 1, .iload 2, .iload 9, .iadd, .i2l, .iload 3, .iload 10, .iadd, .i2l, .invokeinterface 1952 4, .ifCond .eq 8, .iload 8, .sipush 1, .iadd, .goto 9]
def b1953_8 : List Instr := [.iload 8, .goto_w 9]
def b1953_9 : List Instr := [.istore 8, .iload 10, .iload 6, .iadd, .istore 10, .goto 7]
def b1953_10 : List Instr := [.iload 9, .iload 6, .iadd, .istore 9, .goto 6]
def b1953_11 : List Instr := [.iload 8, .jsr 0]
/-- TimberHouseModel$Nails.teeth(IIIIII)I -/
def m1953 : pm_M := (fun j => [b1953_0, b1953_1, b1953_2, b1953_3, b1953_4, b1953_5, b1953_6, b1953_7, b1953_8, b1953_9, b1953_10, b1953_11].getD j [], fun _ => [], 30, 11)
def b1954_0 : List Instr := [.aload 0, .iload 1, .invokeinterface 1933 1, .ifCond .ne 1, .sipush 1, .goto 3]
def b1954_1 : List Instr := [.iload 2, .ifCond .ge 2, .sipush 2, .goto 3]
def b1954_2 : List Instr := [.sipush 0, .goto_w 3]
def b1954_3 : List Instr := [.putfield 30720, .aload 0, .getfield 30720, .ifCond .ne 4, .iload 2, .i2l, .aload 0, .iload 1, .sipush 6, .invokeinterface 1942 3, .lcmp, .ifCond .lt 4, .sipush 1, .goto 5]
def b1954_4 : List Instr := [.sipush 0, .goto_w 5]
def b1954_5 : List Instr := [.jsr 2]
/-- TimberHouseModel$Nails.thick(II)Z -/
def m1954 : pm_M := (fun j => [b1954_0, b1954_1, b1954_2, b1954_3, b1954_4, b1954_5].getD j [], fun _ => [], 30, 3)
def b1955_0 : List Instr := [.aload 0, .iload 1, .invokeinterface 1933 1, .ifCond .eq 1, .sipush 0, .goto 2]
def b1955_1 : List Instr := [.sipush 1, .goto_w 2]
def b1955_2 : List Instr := [.putfield 30720, .aload 0, .getfield 30720, .ifCond .le 3, .sipush 0, .jsr 0]
def b1955_3 : List Instr := [.aload 0, .getfield 30771, .sipush 7, .iload 1, .imul, .iaload, .istore 2, .iload 1, .sipush 3, .if_icmp .ne 4, .iload 2, .goto 8]
def b1955_4 : List Instr := [.iload 1, .sipush 2, .if_icmp .ne 5, .iload 2, .sipush 10, .iadd, .goto 8]
def b1955_5 : List Instr := [.iload 1, .sipush 1, .if_icmp .eq 6, .iload 2, .sipush 50, .if_icmp .le 7, .goto_w 6]
def b1955_6 : List Instr := [.iload 2, .sipush 7, .imul, .sipush 10, .idiv, .goto 8]
def b1955_7 : List Instr := [.sipush 0, .goto_w 8]
def b1955_8 : List Instr := [.jsr 0]
/-- TimberHouseModel$Nails.hole(I)I -/
def m1955 : pm_M := (fun j => [b1955_0, b1955_1, b1955_2, b1955_3, b1955_4, b1955_5, b1955_6, b1955_7, b1955_8].getD j [], fun _ => [], 30, 3)
def b1984_0 : List Instr := [.aload 0, .f2i, .aload 0, .sipush 4, .newarray .int, .putfield 31787, .aload 0, .sipush 4, .newarray .int, .putfield 31795, .aload 0, .sipush 4, .newarray .int, .putfield 31803, .aload 0, .sipush 4, .newarray .int, .putfield 31811, .aload 0, .sipush 8, .newarray .int, .putfield 31827, .aload 0, .sipush 8, .newarray .int, .putfield 31835, .aload 0, .sipush 8, .newarray .int, .putfield 31843, .aload 0, .sipush 8, .newarray .boolean, .putfield 31851, .aload 0, .sipush 8, .newarray .int, .putfield 31859, .aload 0, .sipush 4, .newarray .int, .putfield 31867, .aload 0, .sipush 8, .newarray .int, .putfield 31875, .aload 0, .sipush 2312, .newarray .int, .putfield 31883, .aload 0, .sipush 2312, .newarray .int, .putfield 31891, .aload 0, .sipush 2312, .newarray .int, .putfield 31899, .aload 0, .sipush 3600, .newarray .int, .putfield 31907, .aload 0, .sipush 20, .newarray .int, .putfield 31931, .aload 0, .sipush 20, .newarray .int, .putfield 31939, .aload 0, .sipush 20, .newarray .int, .putfield 31947, .aload 0, .sipush 20, .newarray .int, .putfield 31955, .aload 0, .sipush 20, .newarray .int, .putfield 31963, .aload 0, .sipush 20, .newarray .int, .putfield 31971, .aload 0, .sipush 20, .newarray .int, .putfield 31979, .aload 0, .sipush 20, .newarray .int, .putfield 31987, .aload 0, .sipush 12000, .newarray .int, .putfield 31995, .aload 0, .sipush 25600, .newarray .int, .putfield 32003, .aload 0, .sipush 20480, .newarray .int, .putfield 32011, .aload 0, .iload 1, .ifCond .ge 1, .sipush 0, .goto 3]
def b1984_1 : List Instr := [.iload 1, .sipush 3, .if_icmp .le 2, .sipush 3, .goto 3]
def b1984_2 : List Instr := [.iload 1, .goto_w 3]
def b1984_3 : List Instr := [.putfield 31752, .aload 0, .iload 2, .sipush 1, .if_icmp .ge 4, .sipush 1, .goto 6]
def b1984_4 : List Instr := [.iload 2, .sipush 3, .if_icmp .le 5, .sipush 3, .goto 6]
def b1984_5 : List Instr := [.iload 2, .goto_w 6]
def b1984_6 : List Instr := [.putfield 31760, .aload 0, .iload 3, .sipush 1, .if_icmp .ge 7, .sipush 1, .goto 9]
def b1984_7 : List Instr := [.iload 3, .sipush 16, .if_icmp .le 8, .sipush 16, .goto 9]
def b1984_8 : List Instr := [.iload 3, .goto_w 9]
def b1984_9 : List Instr := [.putfield 31768, .return_]
/-- TimberHouseModel$Sheets.<init>(III)V -/
def m1984 : pm_M := (fun j => [b1984_0, b1984_1, b1984_2, b1984_3, b1984_4, b1984_5, b1984_6, b1984_7, b1984_8, b1984_9].getD j [], fun _ => [], 31, 4)
def b1985_0 : List Instr := [.aload 0, .iload 1, .sipush 1, .sipush 16, .invokeinterface 1986 3, .ifCond .eq 1, .iload 2, .sipush 1, .sipush 16, .invokeinterface 1986 3, .ifCond .eq 1, .iload 3, .sipush 1, .sipush 10000, .invokeinterface 1986 3, .ifCond .eq 1, .iload 4, .sipush 0, .sipush 20, .invokeinterface 1986 3, .ifCond .ne 2, .goto_w 1]
def b1985_1 : List Instr := [.sipush 1, .goto 4]
def b1985_2 : List Instr := [.aload 0, .getfield 31776, .sipush 4, .if_icmp .ne 3, .sipush 2, .goto 4]
def b1985_3 : List Instr := [.sipush 0, .goto_w 4]
def b1985_4 : List Instr := [.putfield 31744, .aload 0, .getfield 31744, .ifCond .le 5, .sipush 0, .jsr 0]
def b1985_5 : List Instr := [.aload 0, .getfield 31787, .aload 0, .getfield 31776, .iload 1, .iastore, .aload 0, .getfield 31795, .aload 0, .getfield 31776, .iload 2, .iastore, .aload 0, .getfield 31803, .aload 0, .getfield 31776, .iload 3, .iastore, .aload 0, .getfield 31811, .aload 0, .getfield 31776, .iload 4, .iastore, .aload 0, .dup, .getfield 31776, .sipush 1, .iadd, .putfield 31776, .aload 0, .sipush 0, .putfield 31914, .aload 0, .getfield 31776, .sipush 1, .isub, .jsr 0]
/-- TimberHouseModel$Sheets.sheet(IIII)I -/
def m1985 : pm_M := (fun j => [b1985_0, b1985_1, b1985_2, b1985_3, b1985_4, b1985_5].getD j [], fun _ => [], 31, 5)
def b1986_0 : List Instr := [.iload 0, .iload 1, .if_icmp .lt 1, .iload 0, .iload 2, .if_icmp .gt 1, .sipush 1, .goto 2]
def b1986_1 : List Instr := [.sipush 0, .goto_w 2]
def b1986_2 : List Instr := [.jsr 2]
/-- TimberHouseModel$Sheets.in(III)Z -/
def m1986 : pm_M := (fun j => [b1986_0, b1986_1, b1986_2].getD j [], fun _ => [], 0, 3)
def b1987_0 : List Instr := [.aload 0, .getfield 31744, .jsr 0]
/-- TimberHouseModel$Sheets.thrown()I -/
def m1987 : pm_M := (fun j => [b1987_0].getD j [], fun _ => [], 31, 1)
def b1988_0 : List Instr := [.aload 0, .iload 1, .sipush 1, .sipush 16, .invokeinterface 1986 3, .ifCond .eq 1, .iload 2, .sipush 1, .sipush 16, .invokeinterface 1986 3, .ifCond .eq 1, .iload 3, .sipush 0, .sipush 50, .invokeinterface 1986 3, .ifCond .ne 2, .goto_w 1]
def b1988_1 : List Instr := [.sipush 1, .goto 4]
def b1988_2 : List Instr := [.aload 0, .getfield 31816, .sipush 8, .if_icmp .ne 3, .sipush 2, .goto 4]
def b1988_3 : List Instr := [.sipush 0, .goto_w 4]
def b1988_4 : List Instr := [.putfield 31744, .aload 0, .getfield 31744, .ifCond .le 5, .sipush 0, .jsr 0]
def b1988_5 : List Instr := [.aload 0, .getfield 31827, .aload 0, .getfield 31816, .iload 1, .iastore, .aload 0, .getfield 31835, .aload 0, .getfield 31816, .iload 2, .iastore, .aload 0, .getfield 31843, .aload 0, .getfield 31816, .iload 3, .iastore, .aload 0, .getfield 31851, .aload 0, .getfield 31816, .iload 4, .bastore, .aload 0, .dup, .getfield 31816, .sipush 1, .iadd, .putfield 31816, .aload 0, .sipush 0, .putfield 31914, .aload 0, .getfield 31816, .sipush 1, .isub, .jsr 0]
/-- TimberHouseModel$Sheets.part(IIIZ)I -/
def m1988 : pm_M := (fun j => [b1988_0, b1988_1, b1988_2, b1988_3, b1988_4, b1988_5].getD j [], fun _ => [], 31, 5)
def b1989_0 : List Instr := [.aload 0, .iload 1, .sipush 0, .aload 0, .getfield 31816, .sipush 1, .isub, .invokeinterface 1986 3, .ifCond .ne 1, .sipush 1, .goto 3]
def b1989_1 : List Instr := [.iload 2, .sipush 0, .sipush 50, .invokeinterface 1986 3, .ifCond .ne 2, .sipush 2, .goto 3]
def b1989_2 : List Instr := [.sipush 0, .goto_w 3]
def b1989_3 : List Instr := [.putfield 31744, .aload 0, .getfield 31744, .ifCond .le 4, .sipush 0, .jsr 0]
def b1989_4 : List Instr := [.aload 0, .getfield 31843, .iload 1, .iaload, .istore 3, .aload 0, .getfield 31843, .iload 1, .iload 2, .iastore, .aload 0, .sipush 0, .putfield 31914, .iload 3, .jsr 0]
/-- TimberHouseModel$Sheets.count(II)I -/
def m1989 : pm_M := (fun j => [b1989_0, b1989_1, b1989_2, b1989_3, b1989_4].getD j [], fun _ => [], 31, 4)
def b1990_0 : List Instr := [.aload 0, .iload 1, .sipush 1, .sipush 16, .invokeinterface 1986 3, .ifCond .eq 1, .iload 2, .sipush 1, .sipush 16, .invokeinterface 1986 3, .ifCond .eq 1, .iload 3, .sipush 0, .sipush 1, .invokeinterface 1986 3, .ifCond .eq 1, .iload 4, .sipush 0, .sipush 3, .invokeinterface 1986 3, .ifCond .eq 1, .sipush 0, .goto 2]
def b1990_1 : List Instr := [.sipush 1, .goto_w 2]
def b1990_2 : List Instr := [.putfield 31744, .aload 0, .getfield 31744, .ifCond .le 3, .sipush 0, .jsr 0]
def b1990_3 : List Instr := [.sipush 0, .istore 5, .goto_w 4]
def b1990_4 : List Instr := [.iload 5, .sipush 8, .if_icmp .ge 5, .aload 0, .getfield 31875, .iload 5, .aload 0, .getfield 31859, .iload 5, .iaload, .iastore, .iinc 5 1, .goto 4]
def b1990_5 : List Instr := [.aload 0, .invokeinterface 1991 1, .aload 0, .invokeinterface 1992 1, .sipush 0, .istore 5, .goto_w 6]
def b1990_6 : List Instr := [.iload 5, .sipush 8, .if_icmp .ge 7, .aload 0, .getfield 31859, .iload 5, .aload 0, .getfield 31875, .iload 5, .iaload, .iastore, .iinc 5 1, .goto 6]
def b1990_7 : List Instr := [.aload 0, .getfield 31883, .iload 4, .iload 3, .iload 1, .iload 2, .invokeinterface 1994 4, .iaload, .jsr 0]
/-- TimberHouseModel$Sheets.worth(IIII)I -/
def m1990 : pm_M := (fun j => [b1990_0, b1990_1, b1990_2, b1990_3, b1990_4, b1990_5, b1990_6, b1990_7].getD j [], fun _ => [], 31, 6)
def b1991_0 : List Instr := [.sipush 0, .istore 1, .goto_w 1]
def b1991_1 : List Instr := [.iload 1, .sipush 8, .if_icmp .ge 4, .aload 0, .getfield 31859, .iload 1, .iload 1, .aload 0, .getfield 31816, .if_icmp .ge 2, .aload 0, .getfield 31843, .iload 1, .iaload, .goto 3]
def b1991_2 : List Instr := [.sipush 0, .goto_w 3]
def b1991_3 : List Instr := [.iastore, .iinc 1 1, .goto 1]
def b1991_4 : List Instr := [.return_]
/-- TimberHouseModel$Sheets.wantAll()V -/
def m1991 : pm_M := (fun j => [b1991_0, b1991_1, b1991_2, b1991_3, b1991_4].getD j [], fun _ => [], 31, 2)
def b1992_0 : List Instr := [.sipush 0, .istore 1, .goto_w 1]
def b1992_1 : List Instr := [.iload 1, .sipush 4, .if_icmp .ge 8, .sipush 0, .istore 2, .goto_w 2]
def b1992_2 : List Instr := [.iload 2, .sipush 2, .if_icmp .ge 7, .sipush 1, .istore 3, .goto_w 3]
def b1992_3 : List Instr := [.iload 3, .sipush 17, .if_icmp .ge 6, .sipush 1, .istore 4, .goto_w 4]
def b1992_4 : List Instr := [.iload 4, .sipush 17, .if_icmp .ge 5, .aload 0, .iload 1, .iload 2, .iload 4, .iload 3, .invokeinterface 1993 5, .iinc 4 1, .goto 4]
def b1992_5 : List Instr := [.iinc 3 1, .goto 3]
def b1992_6 : List Instr := [.iinc 2 1, .goto 2]
def b1992_7 : List Instr := [.iinc 1 1, .goto 1]
def b1992_8 : List Instr := [.return_]
/-- TimberHouseModel$Sheets.fill()V -/
def m1992 : pm_M := (fun j => [b1992_0, b1992_1, b1992_2, b1992_3, b1992_4, b1992_5, b1992_6, b1992_7, b1992_8].getD j [], fun _ => [], 31, 5)
def b1993_0 : List Instr := [.iload 1, .iload 2, .iload 3, .iload 4, .invokeinterface 1994 4, .istore 5, .aload 0, .getfield 31883, .iload 5, .sipush 0, .iastore, .aload 0, .getfield 31891, .iload 5, .sipush 0, .iastore, .aload 0, .getfield 31899, .iload 5, .sipush (-1), .iastore, .sipush 0, .istore 6, .goto_w 1]
def b1993_1 : List Instr := [.iload 6, .aload 0, .getfield 31816, .if_icmp .ge 3, .aload 0, .getfield 31859, .iload 6, .iaload, .ifCond .le 2, .aload 0, .iload 6, .iload 3, .iload 4, .invokeinterface 1995 4, .ifCond .eq 2, .aload 0, .iload 5, .iload 3, .iload 4, .imul, .sipush 0, .iload 6, .invokeinterface 1996 5, .goto_w 2]
def b1993_2 : List Instr := [.iinc 6 1, .goto 1]
def b1993_3 : List Instr := [.iload 2, .ifCond .ne 4, .iload 3, .goto 5]
def b1993_4 : List Instr := [.iload 4, .goto_w 5]
def b1993_5 : List Instr := [.istore 6, .sipush 1, .istore 7, .goto_w 6]
def b1993_6 : List Instr := [.iload 7, .iload 6, .if_icmp .ge 12, .iload 1, .ifCond .le 12, .iload 2, .ifCond .ne 7, .iload 1, .sipush 1, .isub, .sipush 1, .iload 7, .iload 4, .invokeinterface 1994 4, .goto 8]
def b1993_7 : List Instr := [.iload 1, .sipush 1, .isub, .sipush 0, .iload 3, .iload 7, .invokeinterface 1994 4, .goto_w 8]
def b1993_8 : List Instr := [.istore 8, .iload 6, .iload 7, .isub, .aload 0, .getfield 31752, .isub, .istore 9, .aload 0, .getfield 31883, .iload 8, .iaload, .istore 10, .sipush 1, .aload 0, .getfield 31891, .iload 8, .iaload, .iadd, .istore 11, .iload 9, .ifCond .le 11, .iload 2, .ifCond .ne 9, .iload 1, .sipush 0, .iload 9, .iload 4, .invokeinterface 1994 4, .goto 10]
def b1993_9 : List Instr := [.iload 1, .sipush 1, .iload 3, .iload 9, .invokeinterface 1994 4, .goto_w 10]
def b1993_10 : List Instr := [.istore 12, .iload 10, .aload 0, .getfield 31883, .iload 12, .iaload, .iadd, .istore 10, .iload 11, .aload 0, .getfield 31891, .iload 12, .iaload, .iadd, .istore 11, .goto_w 11]
def b1993_11 : List Instr := [.aload 0, .iload 5, .iload 10, .iload 11, .sipush 16, .iload 7, .iadd, .invokeinterface 1996 5, .iinc 7 1, .goto 6]
def b1993_12 : List Instr := [.return_]
/-- TimberHouseModel$Sheets.fillOne(IIII)V -/
def m1993 : pm_M := (fun j => [b1993_0, b1993_1, b1993_2, b1993_3, b1993_4, b1993_5, b1993_6, b1993_7, b1993_8, b1993_9, b1993_10, b1993_11, b1993_12].getD j [], fun _ => [], 31, 13)
def b1994_0 : List Instr := [.sipush 289, .sipush 2, .iload 0, .imul, .iload 1, .iadd, .imul, .sipush 17, .iload 3, .imul, .iadd, .iload 2, .iadd, .jsr 0]
/-- TimberHouseModel$Sheets.place(IIII)I -/
def m1994 : pm_M := (fun j => [b1994_0].getD j [], fun _ => [], 0, 4)
def b1995_0 : List Instr := [.aload 0, .getfield 31827, .iload 1, .iaload, .iload 2, .if_icmp .ne 1, .aload 0, .getfield 31835, .iload 1, .iaload, .iload 3, .if_icmp .eq 2, .goto_w 1]
def b1995_1 : List Instr := [.aload 0, .getfield 31851, .iload 1, .baload, .ifCond .eq 3, .aload 0, .getfield 31827, .iload 1, .iaload, .iload 3, .if_icmp .ne 3, .aload 0, .getfield 31835, .iload 1, .iaload, .iload 2, .if_icmp .ne 3, .goto_w 2]
def b1995_2 : List Instr := [.sipush 1, .goto 4]
def b1995_3 : List Instr := [.sipush 0, .goto_w 4]
def b1995_4 : List Instr := [.jsr 2]
/-- TimberHouseModel$Sheets.isJust(III)Z -/
def m1995 : pm_M := (fun j => [b1995_0, b1995_1, b1995_2, b1995_3, b1995_4].getD j [], fun _ => [], 31, 4)
def b1996_0 : List Instr := [.iload 2, .aload 0, .getfield 31883, .iload 1, .iaload, .if_icmp .gt 1, .iload 2, .aload 0, .getfield 31883, .iload 1, .iaload, .if_icmp .ne 2, .iload 3, .aload 0, .getfield 31891, .iload 1, .iaload, .if_icmp .ge 2, .goto_w 1]
def b1996_1 : List Instr := [.aload 0, .getfield 31883, .iload 1, .iload 2, .iastore, .aload 0, .getfield 31891, .iload 1, .iload 3, .iastore, .aload 0, .getfield 31899, .iload 1, .iload 4, .iastore, .goto_w 2]
def b1996_2 : List Instr := [.return_]
/-- TimberHouseModel$Sheets.better(IIII)V -/
def m1996 : pm_M := (fun j => [b1996_0, b1996_1, b1996_2].getD j [], fun _ => [], 31, 5)
def b1997_0 : List Instr := [.aload 0, .sipush 0, .putfield 31744, .aload 0, .invokeinterface 1991 1, .sipush 0, .istore 1, .goto_w 1]
def b1997_1 : List Instr := [.iload 1, .sipush 4, .if_icmp .ge 2, .aload 0, .getfield 31867, .iload 1, .aload 0, .getfield 31811, .iload 1, .iaload, .iastore, .iinc 1 1, .goto 1]
def b1997_2 : List Instr := [.aload 0, .sipush 0, .putfield 31920, .aload 0, .sipush 1, .putfield 31914, .sipush 1, .istore 1, .goto_w 3]
def b1997_3 : List Instr := [.iload 1, .ifCond .eq 13, .aload 0, .getfield 31920, .sipush 20, .if_icmp .ge 13, .aload 0, .invokeinterface 1992 1, .sipush (-1), .istore 2, .bipush 0, .lstore 3, .sipush 0, .istore 5, .goto_w 4]
def b1997_4 : List Instr := [.iload 5, .aload 0, .getfield 31776, .if_icmp .ge 7, .aload 0, .getfield 31867, .iload 5, .iaload, .ifCond .le 6, .aload 0, .iload 5, .aload 0, .getfield 31920, .invokeinterface 1998 3, .aload 0, .getfield 31971, .aload 0, .getfield 31920, .iaload, .i2l, .lstore 6, .lload 6, .bipush 0, .lcmp, .ifCond .le 6, .iload 2, .ifCond .lt 5, .lload 6, .aload 0, .getfield 31803, .iload 2, .iaload, .i2l, .lmul, .lload 3, .aload 0, .getfield 31803, .iload 5, .iaload, .i2l, .lmul, .lcmp, .ifCond .le 6, .goto_w 5]
def b1997_5 : List Instr := [.iload 5, .istore 2, .lload 6, .lstore 3, .goto_w 6]
def b1997_6 : List Instr := [.iinc 5 1, .goto 4]
def b1997_7 : List Instr := [.iload 2, .ifCond .lt 8, .sipush 1, .goto 9]
def b1997_8 : List Instr := [.sipush 0, .goto_w 9]
def b1997_9 : List Instr := [.istore 1, .iload 1, .ifCond .eq 12, .aload 0, .iload 2, .aload 0, .getfield 31920, .invokeinterface 1998 3, .aload 0, .getfield 31867, .iload 2, .dup2, .iaload, .sipush 1, .isub, .iastore, .sipush 0, .istore 5, .goto_w 10]
def b1997_10 : List Instr := [.iload 5, .sipush 8, .if_icmp .ge 11, .aload 0, .getfield 31859, .iload 5, .aload 0, .getfield 31875, .iload 5, .iaload, .iastore, .iinc 5 1, .goto 10]
def b1997_11 : List Instr := [.aload 0, .dup, .getfield 31920, .sipush 1, .iadd, .putfield 31920, .goto_w 12]
def b1997_12 : List Instr := [.goto 3]
def b1997_13 : List Instr := [.aload 0, .getfield 31920, .jsr 0]
/-- TimberHouseModel$Sheets.run()I -/
def m1997 : pm_M := (fun j => [b1997_0, b1997_1, b1997_2, b1997_3, b1997_4, b1997_5, b1997_6, b1997_7, b1997_8, b1997_9, b1997_10, b1997_11, b1997_12, b1997_13].getD j [], fun _ => [], 31, 8)
def b1998_0 : List Instr := [.sipush 0, .istore 3, .goto_w 1]
def b1998_1 : List Instr := [.iload 3, .sipush 8, .if_icmp .ge 2, .aload 0, .getfield 31875, .iload 3, .aload 0, .getfield 31859, .iload 3, .iaload, .iastore, .iinc 3 1, .goto 1]
def b1998_2 : List Instr := [.aload 0, .getfield 31931, .iload 2, .iload 1, .iastore, .aload 0, .getfield 31939, .iload 2, .aload 0, .iload 1, .invokeinterface 1999 2, .iastore, .aload 0, .getfield 31947, .iload 2, .sipush 0, .iastore, .aload 0, .getfield 31955, .iload 2, .sipush 0, .iastore, .aload 0, .getfield 31963, .iload 2, .sipush 0, .iastore, .aload 0, .getfield 31971, .iload 2, .sipush 0, .iastore, .aload 0, .getfield 31979, .iload 2, .sipush 0, .iastore, .aload 0, .getfield 31987, .iload 2, .sipush 0, .iastore, .aload 0, .sipush 0, .sipush 0, .sipush 0, .aload 0, .getfield 31787, .iload 1, .iaload, .aload 0, .getfield 31795, .iload 1, .iaload, .aload 0, .getfield 31939, .iload 2, .iaload, .aload 0, .getfield 31760, .invokeinterface 2000 8, .sipush 1, .istore 3, .goto_w 3]
def b1998_3 : List Instr := [.iload 3, .ifCond .le 24, .iinc 3 (-1), .aload 0, .getfield 31907, .sipush 6, .iload 3, .imul, .iaload, .istore 4, .aload 0, .getfield 31907, .sipush 6, .iload 3, .imul, .sipush 1, .iadd, .iaload, .istore 5, .aload 0, .getfield 31907, .sipush 6, .iload 3, .imul, .sipush 2, .iadd, .iaload, .istore 6, .aload 0, .getfield 31907, .sipush 6, .iload 3, .imul, .sipush 3, .iadd, .iaload, .istore 7, .aload 0, .getfield 31907, .sipush 6, .iload 3, .imul, .sipush 4, .iadd, .iaload, .istore 8, .aload 0, .getfield 31907, .sipush 6, .iload 3, .imul, .sipush 5, .iadd, .iaload, .istore 9, .aload 0, .getfield 31899, .iload 9, .iload 8, .iload 6, .iload 7, .invokeinterface 1994 4, .iaload, .istore 10, .aload 0, .getfield 31995, .sipush 600, .iload 2, .imul, .aload 0, .getfield 31987, .iload 2, .iaload, .iadd, .iload 10, .iastore, .aload 0, .getfield 31987, .iload 2, .dup2, .iaload, .sipush 1, .iadd, .iastore, .iload 10, .sipush 16, .if_icmp .le 21, .iload 10, .sipush 16, .isub, .istore 11, .iload 8, .ifCond .ne 4, .iload 6, .goto 5]
def b1998_4 : List Instr := [.iload 7, .goto_w 5]
def b1998_5 : List Instr := [.iload 11, .isub, .aload 0, .getfield 31752, .isub, .istore 12, .aload 0, .getfield 31947, .iload 2, .dup2, .iaload, .sipush 1, .iadd, .iastore, .aload 0, .getfield 31955, .iload 2, .dup2, .iaload, .iload 8, .ifCond .ne 6, .iload 7, .goto 7]
def b1998_6 : List Instr := [.iload 6, .goto_w 7]
def b1998_7 : List Instr := [.iadd, .iastore, .iload 12, .ifCond .le 16, .aload 0, .iload 3, .iload 8, .ifCond .ne 8, .iload 4, .iload 11, .iadd, .aload 0, .getfield 31752, .iadd, .goto 9]
def b1998_8 : List Instr := [.iload 4, .goto_w 9]
def b1998_9 : List Instr := [.iload 8, .ifCond .ne 10, .iload 5, .goto 11]
def b1998_10 : List Instr := [.iload 5, .iload 11, .iadd, .aload 0, .getfield 31752, .iadd, .goto_w 11]
def b1998_11 : List Instr := [.iload 8, .ifCond .ne 12, .iload 12, .goto 13]
def b1998_12 : List Instr := [.iload 6, .goto_w 13]
def b1998_13 : List Instr := [.iload 8, .ifCond .ne 14, .iload 7, .goto 15]
def b1998_14 : List Instr := [.iload 12, .goto_w 15]
def b1998_15 : List Instr := [.iload 8, .iload 9, .invokeinterface 2000 8, .iinc 3 1, .goto_w 16]
def b1998_16 : List Instr := [.aload 0, .iload 3, .iload 4, .iload 5, .iload 8, .ifCond .ne 17, .iload 11, .goto 18]
def b1998_17 : List Instr := [.iload 6, .goto_w 18]
def b1998_18 : List Instr := [.iload 8, .ifCond .ne 19, .iload 7, .goto 20]
def b1998_19 : List Instr := [.iload 11, .goto_w 20]
def b1998_20 : List Instr := [.sipush 1, .iload 8, .isub, .iload 9, .sipush 1, .isub, .invokeinterface 2000 8, .iinc 3 1, .goto 23]
def b1998_21 : List Instr := [.iload 10, .sipush (-1), .if_icmp .ne 22, .aload 0, .iload 2, .iload 4, .iload 5, .iload 6, .iload 7, .invokeinterface 2001 6, .goto 23]
def b1998_22 : List Instr := [.aload 0, .iload 2, .iload 10, .iload 4, .iload 5, .iload 6, .iload 7, .invokeinterface 2002 7, .goto_w 23]
def b1998_23 : List Instr := [.goto 3]
def b1998_24 : List Instr := [.return_]
/-- TimberHouseModel$Sheets.walk(II)V -/
def m1998 : pm_M := (fun j => [b1998_0, b1998_1, b1998_2, b1998_3, b1998_4, b1998_5, b1998_6, b1998_7, b1998_8, b1998_9, b1998_10, b1998_11, b1998_12, b1998_13, b1998_14, b1998_15, b1998_16, b1998_17, b1998_18, b1998_19, b1998_20, b1998_21, b1998_22, b1998_23, b1998_24].getD j [], fun _ => [], 31, 13)
def b1999_0 : List Instr := [.aload 0, .getfield 31760, .sipush 0, .aload 0, .getfield 31787, .iload 1, .iaload, .aload 0, .getfield 31795, .iload 1, .iaload, .invokeinterface 1994 4, .istore 2, .aload 0, .getfield 31760, .sipush 1, .aload 0, .getfield 31787, .iload 1, .iaload, .aload 0, .getfield 31795, .iload 1, .iaload, .invokeinterface 1994 4, .istore 3, .aload 0, .getfield 31883, .iload 3, .iaload, .aload 0, .getfield 31883, .iload 2, .iaload, .if_icmp .gt 1, .aload 0, .getfield 31883, .iload 3, .iaload, .aload 0, .getfield 31883, .iload 2, .iaload, .if_icmp .ne 2, .aload 0, .getfield 31891, .iload 3, .iaload, .aload 0, .getfield 31891, .iload 2, .iaload, .if_icmp .ge 2, .goto_w 1]
def b1999_1 : List Instr := [.sipush 1, .goto 3]
def b1999_2 : List Instr := [.sipush 0, .goto_w 3]
def b1999_3 : List Instr := [.jsr 0]
/-- TimberHouseModel$Sheets.wayOf(I)I -/
def m1999 : pm_M := (fun j => [b1999_0, b1999_1, b1999_2, b1999_3].getD j [], fun _ => [], 31, 4)
def b2000_0 : List Instr := [.aload 0, .getfield 31907, .sipush 6, .iload 1, .imul, .iload 2, .iastore, .aload 0, .getfield 31907, .sipush 6, .iload 1, .imul, .sipush 1, .iadd, .iload 3, .iastore, .aload 0, .getfield 31907, .sipush 6, .iload 1, .imul, .sipush 2, .iadd, .iload 4, .iastore, .aload 0, .getfield 31907, .sipush 6, .iload 1, .imul, .sipush 3, .iadd, .iload 5, .iastore, .aload 0, .getfield 31907, .sipush 6, .iload 1, .imul, .sipush 4, .iadd, .iload 6, .iastore, .aload 0, .getfield 31907, .sipush 6, .iload 1, .imul, .sipush 5, .iadd, .iload 7, .iastore, .return_]
/-- TimberHouseModel$Sheets.push(IIIIIII)V -/
def m2000 : pm_M := (fun j => [b2000_0].getD j [], fun _ => [], 31, 8)
def b2001_0 : List Instr := [.iload 4, .aload 0, .getfield 31768, .if_icmp .lt 1, .iload 5, .aload 0, .getfield 31768, .if_icmp .ge 2, .goto_w 1]
def b2001_1 : List Instr := [.return_]
def b2001_2 : List Instr := [.sipush 4, .sipush 256, .iload 1, .imul, .aload 0, .getfield 31979, .iload 1, .iaload, .iadd, .imul, .istore 6, .aload 0, .getfield 32011, .iload 6, .iload 2, .iastore, .aload 0, .getfield 32011, .iload 6, .sipush 1, .iadd, .iload 3, .iastore, .aload 0, .getfield 32011, .iload 6, .sipush 2, .iadd, .iload 4, .iastore, .aload 0, .getfield 32011, .iload 6, .sipush 3, .iadd, .iload 5, .iastore, .aload 0, .getfield 31979, .iload 1, .dup2, .iaload, .sipush 1, .iadd, .iastore, .return_]
/-- TimberHouseModel$Sheets.keepRest(IIIII)V -/
def m2001 : pm_M := (fun j => [b2001_0, b2001_1, b2001_2].getD j [], fun _ => [], 31, 7)
def b2002_0 : List Instr := [.aload 0, .getfield 31875, .iload 2, .iaload, .ifCond .ne 1, .return_]
def b2002_1 : List Instr := [.aload 0, .getfield 31875, .iload 2, .dup2, .iaload, .sipush 1, .isub, .iastore, .sipush 5, .sipush 256, .iload 1, .imul, .aload 0, .getfield 31963, .iload 1, .iaload, .iadd, .imul, .istore 7, .aload 0, .getfield 32003, .iload 7, .iload 2, .iastore, .aload 0, .getfield 32003, .iload 7, .sipush 1, .iadd, .iload 3, .iastore, .aload 0, .getfield 32003, .iload 7, .sipush 2, .iadd, .iload 4, .iastore, .aload 0, .getfield 32003, .iload 7, .sipush 3, .iadd, .iload 5, .iastore, .aload 0, .getfield 32003, .iload 7, .sipush 4, .iadd, .iload 6, .iastore, .aload 0, .getfield 31963, .iload 1, .dup2, .iaload, .sipush 1, .iadd, .iastore, .aload 0, .getfield 31971, .iload 1, .dup2, .iaload, .iload 5, .iload 6, .imul, .iadd, .iastore, .return_]
/-- TimberHouseModel$Sheets.take(IIIIII)V -/
def m2002 : pm_M := (fun j => [b2002_0, b2002_1].getD j [], fun _ => [], 31, 8)
def b2003_0 : List Instr := [.aload 0, .iload 1, .iload 2, .sipush 7, .invokeinterface 2004 4, .aload 0, .getfield 31744, .ifCond .le 1, .sipush 0, .jsr 0]
def b2003_1 : List Instr := [.iload 2, .tableswitch 9 0 6 #[2, 3, 4, 5, 6, 7, 8]]
def b2003_2 : List Instr := [.aload 0, .getfield 31931, .iload 1, .iaload, .jsr 0]
def b2003_3 : List Instr := [.aload 0, .getfield 31963, .iload 1, .iaload, .jsr 0]
def b2003_4 : List Instr := [.aload 0, .getfield 31971, .iload 1, .iaload, .jsr 0]
def b2003_5 : List Instr := [.aload 0, .getfield 31947, .iload 1, .iaload, .jsr 0]
def b2003_6 : List Instr := [.aload 0, .getfield 31939, .iload 1, .iaload, .jsr 0]
def b2003_7 : List Instr := [.aload 0, .getfield 31955, .iload 1, .iaload, .jsr 0]
def b2003_8 : List Instr := [.aload 0, .getfield 31979, .iload 1, .iaload, .jsr 0]
def b2003_9 : List Instr := [.sipush 0, .istore 3, .goto_w 10]
def b2003_10 : List Instr := [.aload 0, .iload 3, .iload 1, .invokeinterface 2005 3, .ifCond .ne 11, .iinc 3 1, .goto 10]
def b2003_11 : List Instr := [.iload 3, .jsr 0]
/-- TimberHouseModel$Sheets.cut(II)I -/
def m2003 : pm_M := (fun j => [b2003_0, b2003_1, b2003_2, b2003_3, b2003_4, b2003_5, b2003_6, b2003_7, b2003_8, b2003_9, b2003_10, b2003_11].getD j [], fun _ => [], 31, 4)
def b2004_0 : List Instr := [.aload 0, .aload 0, .getfield 31914, .ifCond .ne 1, .sipush 1, .goto 4]
def b2004_1 : List Instr := [.iload 1, .sipush 0, .aload 0, .getfield 31920, .sipush 1, .isub, .invokeinterface 1986 3, .ifCond .eq 2, .iload 2, .sipush 0, .iload 3, .invokeinterface 1986 3, .ifCond .ne 3, .goto_w 2]
def b2004_2 : List Instr := [.sipush 2, .goto 4]
def b2004_3 : List Instr := [.sipush 0, .goto_w 4]
def b2004_4 : List Instr := [.putfield 31744, .return_]
/-- TimberHouseModel$Sheets.look(III)V -/
def m2004 : pm_M := (fun j => [b2004_0, b2004_1, b2004_2, b2004_3, b2004_4].getD j [], fun _ => [], 31, 4)
def b2005_0 : List Instr := [.aload 0, .getfield 31931, .iload 1, .iaload, .aload 0, .getfield 31931, .iload 2, .iaload, .if_icmp .ne 1, .aload 0, .getfield 31987, .iload 1, .iaload, .aload 0, .getfield 31987, .iload 2, .iaload, .if_icmp .ne 1, .aload 0, .getfield 31939, .iload 1, .iaload, .aload 0, .getfield 31939, .iload 2, .iaload, .if_icmp .ne 1, .sipush 1, .goto 2]
def b2005_1 : List Instr := [.sipush 0, .goto_w 2]
def b2005_2 : List Instr := [.istore 3, .sipush 0, .istore 4, .goto_w 3]
def b2005_3 : List Instr := [.iload 3, .ifCond .eq 6, .iload 4, .aload 0, .getfield 31987, .iload 1, .iaload, .if_icmp .ge 6, .aload 0, .getfield 31995, .sipush 600, .iload 1, .imul, .iload 4, .iadd, .iaload, .aload 0, .getfield 31995, .sipush 600, .iload 2, .imul, .iload 4, .iadd, .iaload, .if_icmp .ne 4, .sipush 1, .goto 5]
def b2005_4 : List Instr := [.sipush 0, .goto_w 5]
def b2005_5 : List Instr := [.istore 3, .iinc 4 1, .goto 3]
def b2005_6 : List Instr := [.iload 3, .jsr 2]
/-- TimberHouseModel$Sheets.isAlike(II)Z -/
def m2005 : pm_M := (fun j => [b2005_0, b2005_1, b2005_2, b2005_3, b2005_4, b2005_5, b2005_6].getD j [], fun _ => [], 31, 5)
def b2006_0 : List Instr := [.aload 0, .iload 1, .iload 3, .sipush 4, .invokeinterface 2004 4, .aload 0, .aload 0, .getfield 31744, .ifCond .ne 1, .iload 2, .sipush 0, .aload 0, .getfield 31963, .iload 1, .iaload, .sipush 1, .isub, .invokeinterface 1986 3, .ifCond .ne 1, .sipush 2, .goto 2]
def b2006_1 : List Instr := [.aload 0, .getfield 31744, .goto_w 2]
def b2006_2 : List Instr := [.putfield 31744, .aload 0, .getfield 31744, .ifCond .le 3, .sipush 0, .goto 4]
def b2006_3 : List Instr := [.aload 0, .getfield 32003, .sipush 5, .sipush 256, .iload 1, .imul, .iload 2, .iadd, .imul, .iload 3, .iadd, .iaload, .goto_w 4]
def b2006_4 : List Instr := [.jsr 0]
/-- TimberHouseModel$Sheets.taken(III)I -/
def m2006 : pm_M := (fun j => [b2006_0, b2006_1, b2006_2, b2006_3, b2006_4].getD j [], fun _ => [], 31, 4)
def b2007_0 : List Instr := [.aload 0, .iload 1, .iload 3, .sipush 3, .invokeinterface 2004 4, .aload 0, .aload 0, .getfield 31744, .ifCond .ne 1, .iload 2, .sipush 0, .aload 0, .getfield 31979, .iload 1, .iaload, .sipush 1, .isub, .invokeinterface 1986 3, .ifCond .ne 1, .sipush 2, .goto 2]
def b2007_1 : List Instr := [.aload 0, .getfield 31744, .goto_w 2]
def b2007_2 : List Instr := [.putfield 31744, .aload 0, .getfield 31744, .ifCond .le 3, .sipush 0, .goto 4]
def b2007_3 : List Instr := [.aload 0, .getfield 32011, .sipush 4, .sipush 256, .iload 1, .imul, .iload 2, .iadd, .imul, .iload 3, .iadd, .iaload, .goto_w 4]
def b2007_4 : List Instr := [.jsr 0]
/-- TimberHouseModel$Sheets.rest(III)I -/
def m2007 : pm_M := (fun j => [b2007_0, b2007_1, b2007_2, b2007_3, b2007_4].getD j [], fun _ => [], 31, 4)
def b2008_0 : List Instr := [.aload 0, .aload 0, .getfield 31914, .ifCond .ne 1, .sipush 1, .goto 3]
def b2008_1 : List Instr := [.iload 1, .sipush 0, .aload 0, .getfield 31816, .sipush 1, .isub, .invokeinterface 1986 3, .ifCond .ne 2, .sipush 2, .goto 3]
def b2008_2 : List Instr := [.sipush 0, .goto_w 3]
def b2008_3 : List Instr := [.putfield 31744, .aload 0, .getfield 31744, .ifCond .le 4, .sipush 0, .goto 5]
def b2008_4 : List Instr := [.aload 0, .getfield 31859, .iload 1, .iaload, .goto_w 5]
def b2008_5 : List Instr := [.jsr 0]
/-- TimberHouseModel$Sheets.left(I)I -/
def m2008 : pm_M := (fun j => [b2008_0, b2008_1, b2008_2, b2008_3, b2008_4, b2008_5].getD j [], fun _ => [], 31, 2)
def b2009_0 : List Instr := [.aload 0, .aload 0, .getfield 31914, .ifCond .ne 1, .sipush 1, .goto 3]
def b2009_1 : List Instr := [.iload 1, .sipush 0, .sipush 2, .invokeinterface 1986 3, .ifCond .ne 2, .sipush 2, .goto 3]
def b2009_2 : List Instr := [.sipush 0, .goto_w 3]
def b2009_3 : List Instr := [.putfield 31744, .bipush 0, .lstore 2, .sipush 0, .istore 4, .goto_w 4]
def b2009_4 : List Instr := [.iload 4, .aload 0, .getfield 31920, .if_icmp .ge 8, .aload 0, .getfield 31744, .ifCond .ne 8, .aload 0, .getfield 31931, .iload 4, .iaload, .istore 5, .lload 2, .iload 1, .ifCond .ne 5, .aload 0, .getfield 31803, .iload 5, .iaload, .i2l, .goto 7]
def b2009_5 : List Instr := [.iload 1, .sipush 1, .if_icmp .ne 6, .aload 0, .getfield 31787, .iload 5, .iaload, .aload 0, .getfield 31795, .iload 5, .iaload, .imul, .i2l, .goto 7]
def b2009_6 : List Instr := [.aload 0, .getfield 31971, .iload 4, .iaload, .i2l, .goto_w 7]
def b2009_7 : List Instr := [.ladd, .lstore 2, .iinc 4 1, .goto 4]
def b2009_8 : List Instr := [.lload 2, .lreturn]
/-- TimberHouseModel$Sheets.all(I)J -/
def m2009 : pm_M := (fun j => [b2009_0, b2009_1, b2009_2, b2009_3, b2009_4, b2009_5, b2009_6, b2009_7, b2009_8].getD j [], fun _ => [], 31, 6)
def b2010_0 : List Instr := [.aload 0, .sipush 0, .putfield 31744, .sipush 0, .istore 1, .sipush 0, .istore 2, .goto_w 1]
def b2010_1 : List Instr := [.iload 2, .aload 0, .getfield 31816, .if_icmp .ge 2, .iload 1, .aload 0, .getfield 31843, .iload 2, .iaload, .aload 0, .getfield 31827, .iload 2, .iaload, .imul, .aload 0, .getfield 31835, .iload 2, .iaload, .imul, .iadd, .istore 1, .iinc 2 1, .goto 1]
def b2010_2 : List Instr := [.sipush 0, .istore 2, .sipush 0, .istore 3, .goto_w 3]
def b2010_3 : List Instr := [.iload 3, .aload 0, .getfield 31776, .if_icmp .ge 6, .aload 0, .getfield 31787, .iload 3, .iaload, .aload 0, .getfield 31795, .iload 3, .iaload, .imul, .iload 2, .if_icmp .le 4, .aload 0, .getfield 31787, .iload 3, .iaload, .aload 0, .getfield 31795, .iload 3, .iaload, .imul, .goto 5]
def b2010_4 : List Instr := [.iload 2, .goto_w 5]
def b2010_5 : List Instr := [.istore 2, .iinc 3 1, .goto 3]
def b2010_6 : List Instr := [.iload 2, .ifCond .ne 7, .sipush 0, .goto 8]
def b2010_7 : List Instr := [.iload 1, .iload 2, .iadd, .sipush 1, .isub, .iload 2, .idiv, .goto_w 8]
def b2010_8 : List Instr := [.jsr 0]
/-- TimberHouseModel$Sheets.bound()I -/
def m2010 : pm_M := (fun j => [b2010_0, b2010_1, b2010_2, b2010_3, b2010_4, b2010_5, b2010_6, b2010_7, b2010_8].getD j [], fun _ => [], 31, 4)
def b2048_0 : List Instr := [.aload 0, .f2i, .aload 0, .sipush 400, .newarray .int, .putfield 32787, .aload 0, .sipush 400, .newarray .int, .putfield 32795, .aload 0, .sipush 400, .newarray .boolean, .putfield 32803, .aload 0, .sipush 4, .newarray .int, .putfield 32811, .aload 0, .sipush 4, .newarray .int, .dup, .sipush 0, .sipush 1, .iastore, .dup, .sipush 1, .sipush 1, .iastore, .dup, .sipush 2, .sipush 1, .iastore, .dup, .sipush 3, .sipush 1, .iastore, .putfield 32819, .aload 0, .sipush 240, .newarray .int, .putfield 32827, .aload 0, .sipush 160, .newarray .int, .putfield 32859, .aload 0, .sipush 160, .newarray .int, .putfield 32867, .aload 0, .sipush 3, .newarray .int, .putfield 32899, .aload 0, .sipush 6, .newarray .int, .putfield 32915, .aload 0, .sipush 400, .newarray .int, .putfield 32923, .aload 0, .sipush 400, .newarray .boolean, .putfield 32931, .aload 0, .sipush 3, .newarray .int, .putfield 32939, .aload 0, .sipush 3, .newarray .int, .putfield 32947, .aload 0, .iload 1, .sipush 2, .if_icmp .ge 1, .sipush 2, .goto 3]
def b2048_1 : List Instr := [.iload 1, .sipush 20, .if_icmp .le 2, .sipush 20, .goto 3]
def b2048_2 : List Instr := [.iload 1, .goto_w 3]
def b2048_3 : List Instr := [.putfield 32776, .sipush 0, .istore 2, .goto_w 4]
def b2048_4 : List Instr := [.iload 2, .sipush 400, .if_icmp .ge 5, .aload 0, .getfield 32787, .iload 2, .sipush 100, .iastore, .aload 0, .getfield 32795, .iload 2, .sipush 100, .iastore, .iinc 2 1, .goto 4]
def b2048_5 : List Instr := [.return_]
/-- TimberHouseModel$Router.<init>(I)V -/
def m2048 : pm_M := (fun j => [b2048_0, b2048_1, b2048_2, b2048_3, b2048_4, b2048_5].getD j [], fun _ => [], 32, 3)
def b2049_0 : List Instr := [.aload 0, .aload 0, .iload 1, .iload 2, .iload 3, .iload 4, .iload 5, .sipush 0, .sipush 100, .invokeinterface 2050 3, .invokeinterface 2051 6, .putfield 32768, .iload 2, .istore 6, .goto_w 1]
def b2049_1 : List Instr := [.aload 0, .getfield 32768, .ifCond .ne 4, .iload 6, .iload 4, .if_icmp .gt 4, .iload 1, .istore 7, .goto_w 2]
def b2049_2 : List Instr := [.iload 7, .iload 3, .if_icmp .gt 3, .aload 0, .getfield 32795, .sipush 20, .iload 6, .imul, .iload 7, .iadd, .iload 5, .iastore, .iinc 7 1, .goto 2]
def b2049_3 : List Instr := [.iinc 6 1, .goto 1]
def b2049_4 : List Instr := [.return_]
/-- TimberHouseModel$Router.target(IIIII)V -/
def m2049 : pm_M := (fun j => [b2049_0, b2049_1, b2049_2, b2049_3, b2049_4].getD j [], fun _ => [], 32, 8)
def b2050_0 : List Instr := [.iload 0, .iload 1, .if_icmp .lt 1, .iload 0, .iload 2, .if_icmp .gt 1, .sipush 1, .goto 2]
def b2050_1 : List Instr := [.sipush 0, .goto_w 2]
def b2050_2 : List Instr := [.jsr 2]
/-- TimberHouseModel$Router.isIn(III)Z -/
def m2050 : pm_M := (fun j => [b2050_0, b2050_1, b2050_2].getD j [], fun _ => [], 0, 3)
def b2051_0 : List Instr := [.aload 0, .iload 1, .iload 2, .invokeinterface 2052 3, .ifCond .eq 1, .aload 0, .iload 3, .iload 4, .invokeinterface 2052 3, .ifCond .ne 2, .goto_w 1]
def b2051_1 : List Instr := [.sipush 1, .goto 4]
def b2051_2 : List Instr := [.iload 3, .iload 1, .if_icmp .lt 3, .iload 4, .iload 2, .if_icmp .lt 3, .iload 5, .ifCond .eq 3, .sipush 0, .goto 4]
def b2051_3 : List Instr := [.sipush 2, .goto_w 4]
def b2051_4 : List Instr := [.jsr 0]
/-- TimberHouseModel$Router.spanFault(IIIIZ)I -/
def m2051 : pm_M := (fun j => [b2051_0, b2051_1, b2051_2, b2051_3, b2051_4].getD j [], fun _ => [], 32, 6)
def b2052_0 : List Instr := [.iload 1, .sipush 0, .aload 0, .getfield 32776, .sipush 1, .isub, .invokeinterface 2050 3, .ifCond .eq 1, .iload 2, .sipush 0, .aload 0, .getfield 32776, .sipush 1, .isub, .invokeinterface 2050 3, .ifCond .eq 1, .sipush 1, .goto 2]
def b2052_1 : List Instr := [.sipush 0, .goto_w 2]
def b2052_2 : List Instr := [.jsr 2]
/-- TimberHouseModel$Router.isCell(II)Z -/
def m2052 : pm_M := (fun j => [b2052_0, b2052_1, b2052_2].getD j [], fun _ => [], 32, 3)
def b2053_0 : List Instr := [.aload 0, .getfield 32768, .jsr 0]
/-- TimberHouseModel$Router.thrown()I -/
def m2053 : pm_M := (fun j => [b2053_0].getD j [], fun _ => [], 32, 1)
def b2054_0 : List Instr := [.aload 0, .aload 0, .iload 1, .iload 2, .iload 3, .iload 4, .sipush 1, .invokeinterface 2051 6, .putfield 32768, .iload 2, .istore 6, .goto_w 1]
def b2054_1 : List Instr := [.aload 0, .getfield 32768, .ifCond .ne 4, .iload 6, .iload 4, .if_icmp .gt 4, .iload 1, .istore 7, .goto_w 2]
def b2054_2 : List Instr := [.iload 7, .iload 3, .if_icmp .gt 3, .aload 0, .getfield 32803, .sipush 20, .iload 6, .imul, .iload 7, .iadd, .iload 5, .bastore, .iinc 7 1, .goto 2]
def b2054_3 : List Instr := [.iinc 6 1, .goto 1]
def b2054_4 : List Instr := [.return_]
/-- TimberHouseModel$Router.keep(IIIIZ)V -/
def m2054 : pm_M := (fun j => [b2054_0, b2054_1, b2054_2, b2054_3, b2054_4].getD j [], fun _ => [], 32, 8)
def b2055_0 : List Instr := [.aload 0, .iload 1, .sipush 0, .sipush 3, .invokeinterface 2050 3, .ifCond .ne 1, .sipush 1, .goto 3]
def b2055_1 : List Instr := [.iload 2, .sipush 0, .sipush 6, .invokeinterface 2050 3, .ifCond .eq 2, .iload 3, .sipush 1, .sipush 10, .invokeinterface 2050 3, .ifCond .eq 2, .sipush 0, .goto 3]
def b2055_2 : List Instr := [.sipush 2, .goto_w 3]
def b2055_3 : List Instr := [.putfield 32768, .aload 0, .getfield 32768, .ifCond .ne 4, .aload 0, .getfield 32811, .iload 1, .iload 2, .iastore, .aload 0, .getfield 32819, .iload 1, .iload 3, .iastore, .goto_w 4]
def b2055_4 : List Instr := [.return_]
/-- TimberHouseModel$Router.tool(III)V -/
def m2055 : pm_M := (fun j => [b2055_0, b2055_1, b2055_2, b2055_3, b2055_4].getD j [], fun _ => [], 32, 4)
def b2056_0 : List Instr := [.aload 0, .sipush 0, .putfield 32768, .iload 1, .sipush 32, .sipush 126, .invokeinterface 2050 3, .ifCond .eq 1, .aload 0, .getfield 32832, .sipush 240, .if_icmp .ge 1, .sipush 1, .goto 2]
def b2056_1 : List Instr := [.sipush 0, .goto_w 2]
def b2056_2 : List Instr := [.istore 2, .iload 2, .ifCond .eq 3, .aload 0, .getfield 32827, .aload 0, .getfield 32832, .iload 1, .iastore, .aload 0, .dup, .getfield 32832, .sipush 1, .iadd, .putfield 32832, .goto_w 3]
def b2056_3 : List Instr := [.iload 2, .jsr 2]
/-- TimberHouseModel$Router.unit(I)Z -/
def m2056 : pm_M := (fun j => [b2056_0, b2056_1, b2056_2, b2056_3].getD j [], fun _ => [], 32, 3)
def b2057_0 : List Instr := [.aload 0, .sipush 0, .putfield 32768, .aload 0, .sipush 0, .putfield 32840, .aload 0, .sipush (-1), .putfield 32848, .sipush 0, .istore 1, .goto_w 1]
def b2057_1 : List Instr := [.aload 0, .getfield 32848, .sipush (-1), .if_icmp .ne 3, .iload 1, .ifCond .eq 2, .aload 0, .getfield 32840, .aload 0, .getfield 32832, .if_icmp .ge 3, .goto_w 2]
def b2057_2 : List Instr := [.iload 1, .sipush 32, .if_icmp .ge 3, .aload 0, .invokeinterface 2058 1, .aload 0, .iload 1, .invokeinterface 2060 2, .iinc 1 1, .goto 1]
def b2057_3 : List Instr := [.aload 0, .getfield 32848, .sipush (-1), .if_icmp .ne 4, .aload 0, .getfield 32840, .aload 0, .getfield 32832, .if_icmp .ge 4, .aload 0, .aload 0, .getfield 32840, .putfield 32848, .goto_w 4]
def b2057_4 : List Instr := [.aload 0, .sipush 0, .putfield 32832, .aload 0, .getfield 32848, .sipush (-1), .if_icmp .eq 5, .sipush (-1), .aload 0, .getfield 32848, .isub, .jsr 0]
def b2057_5 : List Instr := [.sipush 0, .istore 2, .goto_w 6]
def b2057_6 : List Instr := [.iload 2, .sipush 160, .if_icmp .ge 7, .aload 0, .getfield 32859, .iload 2, .aload 0, .getfield 32867, .iload 2, .iaload, .iastore, .iinc 2 1, .goto 6]
def b2057_7 : List Instr := [.aload 0, .iload 1, .putfield 32872, .aload 0, .sipush 1, .putfield 32882, .iload 1, .jsr 0]
/-- TimberHouseModel$Router.read()I -/
def m2057 : pm_M := (fun j => [b2057_0, b2057_1, b2057_2, b2057_3, b2057_4, b2057_5, b2057_6, b2057_7].getD j [], fun _ => [], 32, 3)
def b2058_0 : List Instr := [.aload 0, .getfield 32848, .sipush (-1), .if_icmp .ne 1, .aload 0, .invokeinterface 2059 1, .sipush 32, .if_icmp .ne 1, .aload 0, .dup, .getfield 32840, .sipush 1, .iadd, .putfield 32840, .goto 0]
def b2058_1 : List Instr := [.return_]
/-- TimberHouseModel$Router.spaces()V -/
def m2058 : pm_M := (fun j => [b2058_0, b2058_1].getD j [], fun _ => [], 32, 1)
def b2059_0 : List Instr := [.aload 0, .getfield 32840, .aload 0, .getfield 32832, .if_icmp .ge 1, .aload 0, .getfield 32827, .aload 0, .getfield 32840, .iaload, .goto 2]
def b2059_1 : List Instr := [.sipush (-1), .goto_w 2]
def b2059_2 : List Instr := [.jsr 0]
/-- TimberHouseModel$Router.now()I -/
def m2059 : pm_M := (fun j => [b2059_0, b2059_1, b2059_2].getD j [], fun _ => [], 32, 1)
def b2060_0 : List Instr := [.aload 0, .invokeinterface 2059 1, .istore 2, .aload 0, .iload 2, .sipush 84, .if_icmp .eq 1, .iload 2, .sipush 71, .if_icmp .ne 2, .goto_w 1]
def b2060_1 : List Instr := [.sipush 1, .goto 3]
def b2060_2 : List Instr := [.sipush 0, .goto_w 3]
def b2060_3 : List Instr := [.invokeinterface 2061 2, .sipush 1, .istore 3, .goto_w 4]
def b2060_4 : List Instr := [.iload 3, .sipush 5, .if_icmp .ge 5, .aload 0, .getfield 32867, .sipush 5, .iload 1, .imul, .iload 3, .iadd, .sipush (-1), .iastore, .iinc 3 1, .goto 4]
def b2060_5 : List Instr := [.iload 2, .sipush 84, .if_icmp .ne 6, .aload 0, .getfield 32867, .sipush 5, .iload 1, .imul, .sipush 2, .iastore, .aload 0, .getfield 32867, .sipush 5, .iload 1, .imul, .sipush 4, .iadd, .aload 0, .sipush 3, .invokeinterface 2062 2, .iastore, .aload 0, .invokeinterface 2058 1, .goto 12]
def b2060_6 : List Instr := [.aload 0, .getfield 32867, .sipush 5, .iload 1, .imul, .aload 0, .sipush 1, .invokeinterface 2062 2, .iastore, .aload 0, .invokeinterface 2058 1, .sipush (-1), .istore 3, .goto_w 7]
def b2060_7 : List Instr := [.aload 0, .getfield 32848, .sipush (-1), .if_icmp .ne 12, .iload 3, .sipush (-1), .if_icmp .eq 8, .aload 0, .invokeinterface 2059 1, .sipush 59, .if_icmp .eq 12, .goto_w 8]
def b2060_8 : List Instr := [.aload 0, .invokeinterface 2059 1, .sipush 88, .isub, .istore 4, .aload 0, .iload 4, .iload 3, .sipush 1, .iadd, .sipush 2, .invokeinterface 2050 3, .invokeinterface 2061 2, .aload 0, .iload 4, .sipush 2, .if_icmp .ne 9, .sipush 100, .goto 10]
def b2060_9 : List Instr := [.aload 0, .getfield 32776, .sipush 1, .isub, .goto_w 10]
def b2060_10 : List Instr := [.invokeinterface 2063 2, .istore 5, .aload 0, .getfield 32848, .sipush (-1), .if_icmp .ne 11, .aload 0, .getfield 32867, .sipush 5, .iload 1, .imul, .sipush 1, .iadd, .iload 4, .iadd, .iload 5, .iastore, .iload 4, .istore 3, .goto_w 11]
def b2060_11 : List Instr := [.aload 0, .invokeinterface 2058 1, .goto 7]
def b2060_12 : List Instr := [.aload 0, .aload 0, .invokeinterface 2059 1, .sipush 59, .if_icmp .ne 13, .sipush 1, .goto 14]
def b2060_13 : List Instr := [.sipush 0, .goto_w 14]
def b2060_14 : List Instr := [.invokeinterface 2061 2, .return_]
/-- TimberHouseModel$Router.statement(I)V -/
def m2060 : pm_M := (fun j => [b2060_0, b2060_1, b2060_2, b2060_3, b2060_4, b2060_5, b2060_6, b2060_7, b2060_8, b2060_9, b2060_10, b2060_11, b2060_12, b2060_13, b2060_14].getD j [], fun _ => [], 32, 6)
def b2061_0 : List Instr := [.aload 0, .getfield 32848, .sipush (-1), .if_icmp .ne 1, .iload 1, .ifCond .ne 1, .aload 0, .aload 0, .getfield 32840, .putfield 32848, .goto_w 1]
def b2061_1 : List Instr := [.aload 0, .getfield 32848, .sipush (-1), .if_icmp .ne 2, .aload 0, .dup, .getfield 32840, .sipush 1, .iadd, .putfield 32840, .goto_w 2]
def b2061_2 : List Instr := [.return_]
/-- TimberHouseModel$Router.must(Z)V -/
def m2061 : pm_M := (fun j => [b2061_0, b2061_1, b2061_2].getD j [], fun _ => [], 32, 2)
def b2062_0 : List Instr := [.aload 0, .invokeinterface 2059 1, .sipush 48, .isub, .istore 2, .aload 0, .iload 2, .sipush 0, .iload 1, .invokeinterface 2050 3, .invokeinterface 2061 2, .iload 2, .jsr 0]
/-- TimberHouseModel$Router.digit(I)I -/
def m2062 : pm_M := (fun j => [b2062_0].getD j [], fun _ => [], 32, 3)
def b2063_0 : List Instr := [.aload 0, .getfield 32840, .istore 2, .aload 0, .sipush 9, .invokeinterface 2062 2, .istore 3, .sipush 1, .istore 4, .goto_w 1]
def b2063_1 : List Instr := [.aload 0, .getfield 32848, .sipush (-1), .if_icmp .ne 2, .iload 4, .sipush 3, .if_icmp .ge 2, .aload 0, .invokeinterface 2059 1, .sipush 48, .sipush 57, .invokeinterface 2050 3, .ifCond .eq 2, .sipush 10, .iload 3, .imul, .aload 0, .sipush 9, .invokeinterface 2062 2, .iadd, .istore 3, .iinc 4 1, .goto 1]
def b2063_2 : List Instr := [.aload 0, .getfield 32848, .sipush (-1), .if_icmp .ne 3, .iload 3, .iload 1, .if_icmp .le 3, .aload 0, .iload 2, .putfield 32848, .goto_w 3]
def b2063_3 : List Instr := [.iload 3, .jsr 0]
/-- TimberHouseModel$Router.number(I)I -/
def m2063 : pm_M := (fun j => [b2063_0, b2063_1, b2063_2, b2063_3].getD j [], fun _ => [], 32, 5)
def b2064_0 : List Instr := [.aload 0, .aload 0, .getfield 32882, .ifCond .eq 1, .sipush 0, .goto 2]
def b2064_1 : List Instr := [.sipush 1, .goto_w 2]
def b2064_2 : List Instr := [.putfield 32768, .aload 0, .getfield 32768, .ifCond .le 3, .sipush 0, .jsr 0]
def b2064_3 : List Instr := [.aload 0, .sipush 1, .putfield 32890, .aload 0, .getfield 32899, .sipush 0, .sipush 0, .iastore, .aload 0, .getfield 32899, .sipush 1, .sipush 0, .iastore, .aload 0, .getfield 32899, .sipush 2, .sipush 100, .iastore, .aload 0, .sipush 0, .putfield 32904, .aload 0, .getfield 32915, .sipush 0, .sipush 0, .iastore, .aload 0, .getfield 32915, .sipush 5, .sipush 0, .iastore, .sipush 0, .istore 1, .sipush 0, .istore 2, .goto_w 4]
def b2064_4 : List Instr := [.iload 2, .aload 0, .getfield 32872, .if_icmp .ge 9, .iload 1, .ifCond .ne 9, .aload 0, .getfield 32859, .sipush 5, .iload 2, .imul, .iaload, .sipush 2, .if_icmp .ne 5, .aload 0, .aload 0, .getfield 32859, .sipush 5, .iload 2, .imul, .sipush 4, .iadd, .iaload, .putfield 32904, .aload 0, .getfield 32915, .sipush 0, .aload 0, .getfield 32915, .sipush 0, .iaload, .sipush 10, .iadd, .iastore, .goto 6]
def b2064_5 : List Instr := [.aload 0, .iload 2, .invokeinterface 2065 2, .istore 1, .goto_w 6]
def b2064_6 : List Instr := [.iload 1, .ifCond .ne 7, .iload 2, .sipush 1, .iadd, .goto 8]
def b2064_7 : List Instr := [.iload 2, .goto_w 8]
def b2064_8 : List Instr := [.istore 2, .goto 4]
def b2064_9 : List Instr := [.aload 0, .getfield 32915, .sipush 1, .iload 2, .iastore, .aload 0, .getfield 32915, .sipush 2, .aload 0, .getfield 32899, .sipush 0, .iaload, .iastore, .aload 0, .getfield 32915, .sipush 3, .aload 0, .getfield 32899, .sipush 1, .iaload, .iastore, .aload 0, .getfield 32915, .sipush 4, .aload 0, .getfield 32899, .sipush 2, .iaload, .iastore, .iload 1, .jsr 0]
/-- TimberHouseModel$Router.run()I -/
def m2064 : pm_M := (fun j => [b2064_0, b2064_1, b2064_2, b2064_3, b2064_4, b2064_5, b2064_6, b2064_7, b2064_8, b2064_9].getD j [], fun _ => [], 32, 3)
def b2065_0 : List Instr := [.sipush 0, .istore 2, .sipush 0, .istore 3, .goto_w 1]
def b2065_1 : List Instr := [.iload 3, .sipush 3, .if_icmp .ge 8, .aload 0, .getfield 32939, .iload 3, .aload 0, .getfield 32899, .iload 3, .iaload, .iastore, .aload 0, .getfield 32859, .sipush 5, .iload 1, .imul, .sipush 1, .iadd, .iload 3, .iadd, .iaload, .istore 4, .aload 0, .getfield 32947, .iload 3, .iload 4, .sipush (-1), .if_icmp .ne 2, .sipush 0, .goto 3]
def b2065_2 : List Instr := [.iload 4, .aload 0, .getfield 32899, .iload 3, .iaload, .isub, .goto_w 3]
def b2065_3 : List Instr := [.iastore, .aload 0, .getfield 32947, .iload 3, .iaload, .ifCond .ge 4, .aload 0, .getfield 32947, .iload 3, .iaload, .ineg, .goto 5]
def b2065_4 : List Instr := [.aload 0, .getfield 32947, .iload 3, .iaload, .goto_w 5]
def b2065_5 : List Instr := [.istore 5, .iload 5, .iload 2, .if_icmp .le 6, .iload 5, .goto 7]
def b2065_6 : List Instr := [.iload 2, .goto_w 7]
def b2065_7 : List Instr := [.istore 2, .iinc 3 1, .goto 1]
def b2065_8 : List Instr := [.sipush 0, .istore 3, .sipush 1, .istore 4, .goto_w 9]
def b2065_9 : List Instr := [.iload 4, .iload 2, .if_icmp .gt 12, .iload 3, .ifCond .ne 12, .sipush 0, .istore 5, .goto_w 10]
def b2065_10 : List Instr := [.iload 5, .sipush 3, .if_icmp .ge 11, .aload 0, .getfield 32899, .iload 5, .aload 0, .getfield 32939, .iload 5, .iaload, .sipush 2, .aload 0, .getfield 32947, .iload 5, .iaload, .imul, .iload 4, .imul, .iload 2, .iadd, .sipush 2, .iload 2, .imul, .invokeinterface 2066 2, .iadd, .iastore, .iinc 5 1, .goto 10]
def b2065_11 : List Instr := [.aload 0, .aload 0, .getfield 32859, .sipush 5, .iload 1, .imul, .iaload, .aload 0, .getfield 32899, .sipush 0, .iaload, .aload 0, .getfield 32899, .sipush 1, .iaload, .aload 0, .getfield 32899, .sipush 2, .iaload, .invokeinterface 2067 5, .istore 3, .iinc 4 1, .goto 9]
def b2065_12 : List Instr := [.iload 3, .jsr 0]
/-- TimberHouseModel$Router.go(I)I -/
def m2065 : pm_M := (fun j => [b2065_0, b2065_1, b2065_2, b2065_3, b2065_4, b2065_5, b2065_6, b2065_7, b2065_8, b2065_9, b2065_10, b2065_11, b2065_12].getD j [], fun _ => [], 32, 6)
def b2066_0 : List Instr := [.iload 0, .iload 1, .idiv, .istore 2, .iload 0, .iload 1, .irem, .ifCond .ge 1, .iload 2, .sipush 1, .isub, .goto 2]
def b2066_1 : List Instr := [.iload 2, .goto_w 2]
def b2066_2 : List Instr := [.jsr 0]
/-- TimberHouseModel$Router.floor(II)I -/
def m2066 : pm_M := (fun j => [b2066_0, b2066_1, b2066_2].getD j [], fun _ => [], 0, 3)
def b2067_0 : List Instr := [.sipush 0, .istore 5, .sipush 0, .istore 6, .sipush 0, .istore 7, .goto_w 1]
def b2067_1 : List Instr := [.iload 7, .sipush 400, .if_icmp .ge 10, .aload 0, .aload 0, .getfield 32904, .iload 2, .iload 3, .iload 7, .invokeinterface 2068 5, .ifCond .eq 2, .aload 0, .getfield 32787, .iload 7, .iaload, .iload 4, .if_icmp .le 2, .sipush 1, .goto 3]
def b2067_2 : List Instr := [.sipush 0, .goto_w 3]
def b2067_3 : List Instr := [.istore 8, .iload 5, .ifCond .ne 4, .iload 8, .ifCond .eq 5, .goto_w 4]
def b2067_4 : List Instr := [.sipush 1, .goto 6]
def b2067_5 : List Instr := [.sipush 0, .goto_w 6]
def b2067_6 : List Instr := [.istore 5, .iload 6, .ifCond .ne 7, .iload 8, .ifCond .eq 8, .aload 0, .getfield 32803, .iload 7, .baload, .ifCond .eq 8, .goto_w 7]
def b2067_7 : List Instr := [.sipush 1, .goto 9]
def b2067_8 : List Instr := [.sipush 0, .goto_w 9]
def b2067_9 : List Instr := [.istore 6, .iinc 7 1, .goto 1]
def b2067_10 : List Instr := [.iload 1, .ifCond .ne 11, .iload 5, .ifCond .ne 12, .goto_w 11]
def b2067_11 : List Instr := [.iload 1, .sipush 1, .if_icmp .ne 15, .iload 6, .ifCond .eq 15, .goto_w 12]
def b2067_12 : List Instr := [.iload 1, .ifCond .ne 13, .sipush 1, .goto 14]
def b2067_13 : List Instr := [.sipush 2, .goto_w 14]
def b2067_14 : List Instr := [.jsr 0]
def b2067_15 : List Instr := [.sipush 0, .istore 7, .goto_w 16]
def b2067_16 : List Instr := [.iload 7, .sipush 400, .if_icmp .ge 18, .aload 0, .aload 0, .getfield 32904, .iload 2, .iload 3, .iload 7, .invokeinterface 2068 5, .ifCond .eq 17, .aload 0, .getfield 32787, .iload 7, .iaload, .iload 4, .if_icmp .le 17, .aload 0, .getfield 32787, .iload 7, .iload 4, .iastore, .aload 0, .getfield 32915, .sipush 5, .dup2, .iaload, .sipush 1, .iadd, .iastore, .goto_w 17]
def b2067_17 : List Instr := [.iinc 7 1, .goto 16]
def b2067_18 : List Instr := [.aload 0, .getfield 32915, .sipush 0, .aload 0, .getfield 32915, .sipush 0, .iaload, .iload 1, .ifCond .ne 19, .sipush 1, .goto 20]
def b2067_19 : List Instr := [.aload 0, .getfield 32819, .aload 0, .getfield 32904, .iaload, .goto_w 20]
def b2067_20 : List Instr := [.iadd, .iastore, .sipush 0, .jsr 0]
/-- TimberHouseModel$Router.step(IIII)I -/
def m2067 : pm_M := (fun j => [b2067_0, b2067_1, b2067_2, b2067_3, b2067_4, b2067_5, b2067_6, b2067_7, b2067_8, b2067_9, b2067_10, b2067_11, b2067_12, b2067_13, b2067_14, b2067_15, b2067_16, b2067_17, b2067_18, b2067_19, b2067_20].getD j [], fun _ => [], 32, 9)
def b2068_0 : List Instr := [.iload 4, .sipush 20, .irem, .iload 2, .isub, .iload 4, .sipush 20, .idiv, .iload 3, .isub, .aload 0, .getfield 32811, .iload 1, .iaload, .invokeinterface 2069 3, .ifCond .eq 1, .aload 0, .iload 4, .sipush 20, .irem, .iload 4, .sipush 20, .idiv, .invokeinterface 2052 3, .ifCond .eq 1, .sipush 1, .goto 2]
def b2068_1 : List Instr := [.sipush 0, .goto_w 2]
def b2068_2 : List Instr := [.jsr 2]
/-- TimberHouseModel$Router.isInDisc(IIII)Z -/
def m2068 : pm_M := (fun j => [b2068_0, b2068_1, b2068_2].getD j [], fun _ => [], 32, 5)
def b2069_0 : List Instr := [.iload 0, .iload 0, .imul, .iload 1, .iload 1, .imul, .iadd, .iload 2, .iload 2, .imul, .if_icmp .gt 1, .sipush 1, .goto 2]
def b2069_1 : List Instr := [.sipush 0, .goto_w 2]
def b2069_2 : List Instr := [.jsr 2]
/-- TimberHouseModel$Router.isNear(III)Z -/
def m2069 : pm_M := (fun j => [b2069_0, b2069_1, b2069_2].getD j [], fun _ => [], 0, 3)
def b2070_0 : List Instr := [.aload 0, .iload 1, .sipush 0, .sipush 5, .invokeinterface 2050 3, .ifCond .ne 1, .sipush 1, .goto 3]
def b2070_1 : List Instr := [.aload 0, .getfield 32890, .ifCond .eq 2, .sipush 0, .goto 3]
def b2070_2 : List Instr := [.sipush 2, .goto_w 3]
def b2070_3 : List Instr := [.putfield 32768, .aload 0, .getfield 32768, .ifCond .le 4, .sipush 0, .goto 5]
def b2070_4 : List Instr := [.aload 0, .getfield 32915, .iload 1, .iaload, .goto_w 5]
def b2070_5 : List Instr := [.jsr 0]
/-- TimberHouseModel$Router.about(I)I -/
def m2070 : pm_M := (fun j => [b2070_0, b2070_1, b2070_2, b2070_3, b2070_4, b2070_5].getD j [], fun _ => [], 32, 2)
def b2071_0 : List Instr := [.aload 0, .aload 0, .iload 1, .iload 2, .invokeinterface 2052 3, .ifCond .eq 1, .iload 3, .sipush 0, .sipush 2, .invokeinterface 2050 3, .ifCond .eq 1, .sipush 0, .goto 2]
def b2071_1 : List Instr := [.sipush 1, .goto_w 2]
def b2071_2 : List Instr := [.putfield 32768, .aload 0, .getfield 32768, .ifCond .le 3, .sipush 0, .jsr 0]
def b2071_3 : List Instr := [.sipush 20, .iload 2, .imul, .iload 1, .iadd, .istore 4, .iload 3, .ifCond .ne 4, .aload 0, .getfield 32787, .iload 4, .iaload, .goto 7]
def b2071_4 : List Instr := [.iload 3, .sipush 1, .if_icmp .ne 5, .aload 0, .getfield 32795, .iload 4, .iaload, .goto 7]
def b2071_5 : List Instr := [.aload 0, .getfield 32803, .iload 4, .baload, .ifCond .eq 6, .sipush 1, .goto 7]
def b2071_6 : List Instr := [.sipush 0, .goto_w 7]
def b2071_7 : List Instr := [.jsr 0]
/-- TimberHouseModel$Router.cell(III)I -/
def m2071 : pm_M := (fun j => [b2071_0, b2071_1, b2071_2, b2071_3, b2071_4, b2071_5, b2071_6, b2071_7].getD j [], fun _ => [], 32, 5)
def b2072_0 : List Instr := [.aload 0, .iload 1, .sipush 0, .sipush 3, .invokeinterface 2050 3, .ifCond .eq 1, .sipush 0, .goto 2]
def b2072_1 : List Instr := [.sipush 1, .goto_w 2]
def b2072_2 : List Instr := [.putfield 32768, .sipush 0, .istore 2, .sipush (-1), .istore 3, .aload 0, .getfield 32776, .aload 0, .getfield 32776, .imul, .sipush 1, .isub, .istore 4, .goto_w 3]
def b2072_3 : List Instr := [.iload 4, .ifCond .lt 12, .aload 0, .getfield 32768, .ifCond .ne 12, .sipush 20, .iload 4, .aload 0, .getfield 32776, .idiv, .imul, .iload 4, .aload 0, .getfield 32776, .irem, .iadd, .istore 5, .iload 1, .sipush 2, .irem, .ifCond .ne 5, .aload 0, .getfield 32787, .iload 5, .iaload, .aload 0, .getfield 32795, .iload 5, .iaload, .if_icmp .le 4, .sipush 1, .goto 7]
def b2072_4 : List Instr := [.sipush 0, .goto 7]
def b2072_5 : List Instr := [.aload 0, .getfield 32787, .iload 5, .iaload, .aload 0, .getfield 32795, .iload 5, .iaload, .if_icmp .ge 6, .sipush 1, .goto 7]
def b2072_6 : List Instr := [.sipush 0, .goto_w 7]
def b2072_7 : List Instr := [.istore 6, .iload 6, .ifCond .eq 8, .iload 2, .sipush 1, .iadd, .goto 9]
def b2072_8 : List Instr := [.iload 2, .goto_w 9]
def b2072_9 : List Instr := [.istore 2, .iload 6, .ifCond .eq 10, .iload 4, .goto 11]
def b2072_10 : List Instr := [.iload 3, .goto_w 11]
def b2072_11 : List Instr := [.istore 3, .iinc 4 (-1), .goto 3]
def b2072_12 : List Instr := [.aload 0, .getfield 32768, .ifCond .le 13, .sipush 0, .goto 15]
def b2072_13 : List Instr := [.iload 1, .sipush 2, .if_icmp .ge 14, .iload 2, .goto 15]
def b2072_14 : List Instr := [.iload 3, .goto_w 15]
def b2072_15 : List Instr := [.jsr 0]
/-- TimberHouseModel$Router.check(I)I -/
def m2072 : pm_M := (fun j => [b2072_0, b2072_1, b2072_2, b2072_3, b2072_4, b2072_5, b2072_6, b2072_7, b2072_8, b2072_9, b2072_10, b2072_11, b2072_12, b2072_13, b2072_14, b2072_15].getD j [], fun _ => [], 32, 7)
def b2073_0 : List Instr := [.aload 0, .iload 1, .sipush 0, .sipush 3, .invokeinterface 2050 3, .ifCond .eq 1, .sipush 0, .goto 2]
def b2073_1 : List Instr := [.sipush 1, .goto_w 2]
def b2073_2 : List Instr := [.putfield 32768, .sipush 0, .istore 2, .sipush 0, .istore 3, .goto_w 3]
def b2073_3 : List Instr := [.iload 3, .sipush 400, .if_icmp .ge 10, .aload 0, .getfield 32768, .ifCond .ne 10, .sipush 0, .istore 4, .aload 0, .iload 3, .sipush 20, .irem, .iload 3, .sipush 20, .idiv, .invokeinterface 2052 3, .ifCond .eq 4, .aload 0, .getfield 32787, .iload 3, .iaload, .aload 0, .getfield 32795, .iload 3, .iaload, .if_icmp .le 4, .sipush 1, .goto 5]
def b2073_4 : List Instr := [.sipush 0, .goto_w 5]
def b2073_5 : List Instr := [.istore 5, .sipush 0, .istore 6, .goto_w 6]
def b2073_6 : List Instr := [.iload 6, .aload 0, .getfield 32776, .aload 0, .getfield 32776, .imul, .if_icmp .ge 7, .iload 5, .ifCond .eq 7, .iload 4, .ifCond .ne 7, .aload 0, .iload 1, .iload 6, .aload 0, .getfield 32776, .irem, .iload 6, .aload 0, .getfield 32776, .idiv, .iload 3, .invokeinterface 2074 5, .istore 4, .iinc 6 1, .goto 6]
def b2073_7 : List Instr := [.iload 4, .ifCond .eq 8, .iload 2, .sipush 1, .iadd, .goto 9]
def b2073_8 : List Instr := [.iload 2, .goto_w 9]
def b2073_9 : List Instr := [.istore 2, .iinc 3 1, .goto 3]
def b2073_10 : List Instr := [.iload 2, .jsr 0]
/-- TimberHouseModel$Router.reached(I)I -/
def m2073 : pm_M := (fun j => [b2073_0, b2073_1, b2073_2, b2073_3, b2073_4, b2073_5, b2073_6, b2073_7, b2073_8, b2073_9, b2073_10].getD j [], fun _ => [], 32, 7)
def b2074_0 : List Instr := [.aload 0, .iload 1, .iload 2, .iload 3, .iload 4, .invokeinterface 2068 5, .istore 5, .sipush 0, .istore 6, .goto_w 1]
def b2074_1 : List Instr := [.iload 6, .sipush 400, .if_icmp .ge 5, .iload 5, .ifCond .eq 5, .aload 0, .iload 1, .iload 2, .iload 3, .iload 6, .invokeinterface 2068 5, .ifCond .eq 2, .aload 0, .getfield 32795, .iload 6, .iaload, .aload 0, .getfield 32795, .iload 4, .iaload, .if_icmp .gt 3, .aload 0, .getfield 32803, .iload 6, .baload, .ifCond .ne 3, .goto_w 2]
def b2074_2 : List Instr := [.sipush 1, .goto 4]
def b2074_3 : List Instr := [.sipush 0, .goto_w 4]
def b2074_4 : List Instr := [.istore 5, .iinc 6 1, .goto 1]
def b2074_5 : List Instr := [.iload 5, .jsr 2]
/-- TimberHouseModel$Router.spares(IIII)Z -/
def m2074 : pm_M := (fun j => [b2074_0, b2074_1, b2074_2, b2074_3, b2074_4, b2074_5].getD j [], fun _ => [], 32, 7)
def b2075_0 : List Instr := [.aload 0, .sipush 0, .putfield 32768, .sipush 0, .istore 1, .sipush 0, .istore 2, .goto_w 1]
def b2075_1 : List Instr := [.iload 2, .sipush 400, .if_icmp .ge 5, .aload 0, .getfield 32931, .iload 2, .aload 0, .iload 2, .sipush 20, .irem, .iload 2, .sipush 20, .idiv, .invokeinterface 2052 3, .ifCond .eq 2, .aload 0, .getfield 32787, .iload 2, .iaload, .ifCond .ne 3, .goto_w 2]
def b2075_2 : List Instr := [.sipush 1, .goto 4]
def b2075_3 : List Instr := [.sipush 0, .goto_w 4]
def b2075_4 : List Instr := [.bastore, .iinc 2 1, .goto 1]
def b2075_5 : List Instr := [.sipush 0, .istore 2, .goto_w 6]
def b2075_6 : List Instr := [.iload 2, .sipush 400, .if_icmp .ge 8, .aload 0, .getfield 32931, .iload 2, .baload, .ifCond .ne 7, .iinc 1 1, .aload 0, .iload 2, .invokeinterface 2076 2, .goto_w 7]
def b2075_7 : List Instr := [.iinc 2 1, .goto 6]
def b2075_8 : List Instr := [.iload 1, .jsr 0]
/-- TimberHouseModel$Router.pieces()I -/
def m2075 : pm_M := (fun j => [b2075_0, b2075_1, b2075_2, b2075_3, b2075_4, b2075_5, b2075_6, b2075_7, b2075_8].getD j [], fun _ => [], 32, 3)
def b2076_0 : List Instr := [.sipush 1, .istore 2, .aload 0, .getfield 32923, .sipush 0, .iload 1, .iastore, .aload 0, .getfield 32931, .iload 1, .sipush 1, .bastore, .goto_w 1]
def b2076_1 : List Instr := [.iload 2, .ifCond .le 11, .iinc 2 (-1), .aload 0, .getfield 32923, .iload 2, .iaload, .istore 3, .sipush 0, .istore 4, .goto_w 2]
def b2076_2 : List Instr := [.iload 4, .sipush 4, .if_icmp .ge 10, .iload 3, .sipush 20, .irem, .iload 4, .ifCond .ne 3, .sipush 1, .goto 5]
def b2076_3 : List Instr := [.iload 4, .sipush 1, .if_icmp .ne 4, .sipush (-1), .goto 5]
def b2076_4 : List Instr := [.sipush 0, .goto_w 5]
def b2076_5 : List Instr := [.iadd, .istore 5, .iload 3, .sipush 20, .idiv, .iload 4, .sipush 2, .if_icmp .ne 6, .sipush 1, .goto 8]
def b2076_6 : List Instr := [.iload 4, .sipush 3, .if_icmp .ne 7, .sipush (-1), .goto 8]
def b2076_7 : List Instr := [.sipush 0, .goto_w 8]
def b2076_8 : List Instr := [.iadd, .istore 6, .aload 0, .iload 5, .iload 6, .invokeinterface 2052 3, .ifCond .eq 9, .aload 0, .getfield 32931, .sipush 20, .iload 6, .imul, .iload 5, .iadd, .baload, .ifCond .ne 9, .aload 0, .getfield 32931, .sipush 20, .iload 6, .imul, .iload 5, .iadd, .sipush 1, .bastore, .aload 0, .getfield 32923, .iload 2, .sipush 20, .iload 6, .imul, .iload 5, .iadd, .iastore, .iinc 2 1, .goto_w 9]
def b2076_9 : List Instr := [.iinc 4 1, .goto 2]
def b2076_10 : List Instr := [.goto 1]
def b2076_11 : List Instr := [.return_]
/-- TimberHouseModel$Router.flood(I)V -/
def m2076 : pm_M := (fun j => [b2076_0, b2076_1, b2076_2, b2076_3, b2076_4, b2076_5, b2076_6, b2076_7, b2076_8, b2076_9, b2076_10, b2076_11].getD j [], fun _ => [], 32, 7)
def b2077_0 : List Instr := [.aload 0, .sipush 0, .putfield 32768, .sipush 0, .istore 1, .goto_w 1]
def b2077_1 : List Instr := [.iload 1, .sipush 400, .if_icmp .ge 2, .aload 0, .getfield 32787, .iload 1, .sipush 100, .iastore, .iinc 1 1, .goto 1]
def b2077_2 : List Instr := [.return_]
/-- TimberHouseModel$Router.blank()V -/
def m2077 : pm_M := (fun j => [b2077_0, b2077_1, b2077_2].getD j [], fun _ => [], 32, 2)
def b2112_0 : List Instr := [.aload 0, .f2i, .aload 0, .sipush 6, .newarray .int, .putfield 33811, .aload 0, .sipush 6, .newarray .int, .putfield 33819, .aload 0, .sipush 48, .newarray .int, .putfield 33827, .aload 0, .sipush 48, .newarray .int, .putfield 33835, .aload 0, .sipush 6, .newarray .int, .putfield 33851, .aload 0, .sipush 6, .newarray .int, .putfield 33859, .aload 0, .sipush 6, .newarray .int, .putfield 33867, .aload 0, .sipush 24, .newarray .int, .putfield 33875, .aload 0, .sipush 24, .newarray .int, .putfield 33891, .aload 0, .sipush 24, .newarray .int, .putfield 33899, .aload 0, .sipush 24, .newarray .int, .putfield 33907, .aload 0, .sipush 24, .newarray .int, .putfield 33915, .aload 0, .sipush 24, .newarray .int, .putfield 33931, .aload 0, .sipush 24, .newarray .int, .putfield 33939, .aload 0, .sipush 6, .newarray .int, .putfield 33971, .aload 0, .sipush 24, .newarray .int, .putfield 33979, .aload 0, .sipush 24, .newarray .int, .putfield 33987, .aload 0, .sipush 24, .newarray .int, .putfield 33995, .aload 0, .sipush 24, .newarray .int, .putfield 34003, .aload 0, .sipush 6, .newarray .int, .putfield 34043, .aload 0, .sipush 6, .newarray .int, .putfield 34051, .aload 0, .sipush 6, .newarray .boolean, .putfield 34059, .aload 0, .iload 1, .i2l, .putfield 33921, .sipush 0, .istore 2, .goto_w 1]
def b2112_1 : List Instr := [.iload 2, .sipush 24, .if_icmp .ge 2, .aload 0, .getfield 33979, .iload 2, .sipush (-1), .iastore, .aload 0, .getfield 33987, .iload 2, .sipush (-1), .iastore, .iinc 2 1, .goto 1]
def b2112_2 : List Instr := [.return_]
/-- TimberHouseModel$Plans.<init>(I)V -/
def m2112 : pm_M := (fun j => [b2112_0, b2112_1, b2112_2].getD j [], fun _ => [], 33, 3)
def b2113_0 : List Instr := [.aload 0, .iload 1, .sipush 0, .sipush 3, .invokeinterface 2114 3, .ifCond .ne 1, .sipush 1, .goto 3]
def b2113_1 : List Instr := [.aload 0, .getfield 33800, .sipush 6, .if_icmp .ne 2, .sipush 2, .goto 3]
def b2113_2 : List Instr := [.sipush 0, .goto_w 3]
def b2113_3 : List Instr := [.putfield 33792, .aload 0, .getfield 33792, .ifCond .le 4, .sipush 0, .jsr 0]
def b2113_4 : List Instr := [.aload 0, .getfield 33811, .aload 0, .getfield 33800, .iload 1, .iastore, .aload 0, .dup, .getfield 33800, .sipush 1, .iadd, .putfield 33800, .aload 0, .sipush 0, .putfield 33954, .aload 0, .getfield 33800, .sipush 1, .isub, .jsr 0]
/-- TimberHouseModel$Plans.machine(I)I -/
def m2113 : pm_M := (fun j => [b2113_0, b2113_1, b2113_2, b2113_3, b2113_4].getD j [], fun _ => [], 33, 2)
def b2114_0 : List Instr := [.iload 0, .iload 1, .if_icmp .lt 1, .iload 0, .iload 2, .if_icmp .gt 1, .sipush 1, .goto 2]
def b2114_1 : List Instr := [.sipush 0, .goto_w 2]
def b2114_2 : List Instr := [.jsr 2]
/-- TimberHouseModel$Plans.in(III)Z -/
def m2114 : pm_M := (fun j => [b2114_0, b2114_1, b2114_2].getD j [], fun _ => [], 0, 3)
def b2115_0 : List Instr := [.aload 0, .getfield 33792, .jsr 0]
/-- TimberHouseModel$Plans.thrown()I -/
def m2115 : pm_M := (fun j => [b2115_0].getD j [], fun _ => [], 33, 1)
def b2116_0 : List Instr := [.aload 0, .iload 1, .sipush 0, .aload 0, .getfield 33800, .sipush 1, .isub, .invokeinterface 2114 3, .ifCond .ne 1, .sipush 1, .goto 5]
def b2116_1 : List Instr := [.iload 2, .sipush 0, .sipush 1000, .invokeinterface 2114 3, .ifCond .eq 2, .iload 3, .iload 2, .if_icmp .le 2, .iload 3, .sipush 2000, .if_icmp .le 3, .goto_w 2]
def b2116_2 : List Instr := [.sipush 2, .goto 5]
def b2116_3 : List Instr := [.aload 0, .getfield 33819, .iload 1, .iaload, .sipush 8, .if_icmp .ne 4, .sipush 3, .goto 5]
def b2116_4 : List Instr := [.sipush 0, .goto_w 5]
def b2116_5 : List Instr := [.putfield 33792, .aload 0, .getfield 33792, .ifCond .le 6, .sipush 0, .jsr 0]
def b2116_6 : List Instr := [.aload 0, .getfield 33827, .sipush 8, .iload 1, .imul, .aload 0, .getfield 33819, .iload 1, .iaload, .iadd, .iload 2, .iastore, .aload 0, .getfield 33835, .sipush 8, .iload 1, .imul, .aload 0, .getfield 33819, .iload 1, .iaload, .iadd, .iload 3, .iastore, .aload 0, .getfield 33819, .iload 1, .dup2, .iaload, .sipush 1, .iadd, .iastore, .aload 0, .sipush 0, .putfield 33954, .aload 0, .getfield 33819, .iload 1, .iaload, .jsr 0]
/-- TimberHouseModel$Plans.out(III)I -/
def m2116 : pm_M := (fun j => [b2116_0, b2116_1, b2116_2, b2116_3, b2116_4, b2116_5, b2116_6].getD j [], fun _ => [], 33, 4)
def b2117_0 : List Instr := [.aload 0, .iload 1, .sipush 0, .sipush 10000, .invokeinterface 2114 3, .ifCond .eq 1, .iload 2, .sipush 0, .sipush 100, .invokeinterface 2114 3, .ifCond .ne 2, .goto_w 1]
def b2117_1 : List Instr := [.sipush 1, .goto 4]
def b2117_2 : List Instr := [.aload 0, .getfield 33840, .sipush 6, .if_icmp .ne 3, .sipush 2, .goto 4]
def b2117_3 : List Instr := [.sipush 0, .goto_w 4]
def b2117_4 : List Instr := [.putfield 33792, .aload 0, .getfield 33792, .ifCond .le 5, .sipush 0, .jsr 0]
def b2117_5 : List Instr := [.aload 0, .getfield 33851, .aload 0, .getfield 33840, .iload 1, .iastore, .aload 0, .getfield 33859, .aload 0, .getfield 33840, .iload 2, .iastore, .aload 0, .dup, .getfield 33840, .sipush 1, .iadd, .putfield 33840, .aload 0, .sipush 0, .putfield 33954, .aload 0, .getfield 33840, .sipush 1, .isub, .jsr 0]
/-- TimberHouseModel$Plans.job(II)I -/
def m2117 : pm_M := (fun j => [b2117_0, b2117_1, b2117_2, b2117_3, b2117_4, b2117_5].getD j [], fun _ => [], 33, 3)
def b2118_0 : List Instr := [.aload 0, .iload 1, .sipush 0, .aload 0, .getfield 33840, .sipush 1, .isub, .invokeinterface 2114 3, .ifCond .ne 1, .sipush 1, .goto 3]
def b2118_1 : List Instr := [.iload 2, .sipush 0, .sipush 10000, .invokeinterface 2114 3, .ifCond .ne 2, .sipush 2, .goto 3]
def b2118_2 : List Instr := [.sipush 0, .goto_w 3]
def b2118_3 : List Instr := [.putfield 33792, .aload 0, .getfield 33792, .ifCond .ne 4, .aload 0, .getfield 33851, .iload 1, .iload 2, .iastore, .aload 0, .sipush 0, .putfield 33954, .goto_w 4]
def b2118_4 : List Instr := [.return_]
/-- TimberHouseModel$Plans.due(II)V -/
def m2118 : pm_M := (fun j => [b2118_0, b2118_1, b2118_2, b2118_3, b2118_4].getD j [], fun _ => [], 33, 3)
def b2119_0 : List Instr := [.aload 0, .iload 1, .sipush 0, .aload 0, .getfield 33840, .sipush 1, .isub, .invokeinterface 2114 3, .ifCond .ne 1, .sipush 1, .goto 5]
def b2119_1 : List Instr := [.iload 2, .sipush 0, .sipush 3, .invokeinterface 2114 3, .ifCond .eq 2, .iload 3, .sipush 1, .sipush 100, .invokeinterface 2114 3, .ifCond .eq 2, .iload 4, .sipush 0, .sipush 100, .invokeinterface 2114 3, .ifCond .ne 3, .goto_w 2]
def b2119_2 : List Instr := [.sipush 2, .goto 5]
def b2119_3 : List Instr := [.aload 0, .getfield 33867, .iload 1, .iaload, .sipush 4, .if_icmp .ne 4, .sipush 3, .goto 5]
def b2119_4 : List Instr := [.sipush 0, .goto_w 5]
def b2119_5 : List Instr := [.putfield 33792, .aload 0, .getfield 33792, .ifCond .le 6, .sipush 0, .jsr 0]
def b2119_6 : List Instr := [.aload 0, .getfield 33891, .aload 0, .getfield 33880, .iload 1, .iastore, .aload 0, .getfield 33899, .aload 0, .getfield 33880, .iload 2, .iastore, .aload 0, .getfield 33907, .aload 0, .getfield 33880, .iload 3, .iastore, .aload 0, .getfield 33915, .aload 0, .getfield 33880, .iload 4, .iastore, .aload 0, .getfield 33875, .sipush 4, .iload 1, .imul, .aload 0, .getfield 33867, .iload 1, .iaload, .iadd, .aload 0, .getfield 33880, .iastore, .aload 0, .getfield 33867, .iload 1, .dup2, .iaload, .sipush 1, .iadd, .iastore, .aload 0, .dup, .getfield 33880, .sipush 1, .iadd, .putfield 33880, .aload 0, .sipush 0, .putfield 33954, .aload 0, .getfield 33880, .sipush 1, .isub, .jsr 0]
/-- TimberHouseModel$Plans.step(IIII)I -/
def m2119 : pm_M := (fun j => [b2119_0, b2119_1, b2119_2, b2119_3, b2119_4, b2119_5, b2119_6].getD j [], fun _ => [], 33, 5)
def b2120_0 : List Instr := [.aload 0, .iload 1, .sipush 1, .sipush 2000, .invokeinterface 2114 3, .ifCond .ne 1, .sipush 1, .goto 4]
def b2120_1 : List Instr := [.aload 0, .getfield 33840, .ifCond .eq 2, .aload 0, .invokeinterface 2121 1, .ifCond .ne 3, .goto_w 2]
def b2120_2 : List Instr := [.sipush 2, .goto 4]
def b2120_3 : List Instr := [.sipush 0, .goto_w 4]
def b2120_4 : List Instr := [.putfield 33792, .aload 0, .getfield 33792, .ifCond .le 5, .sipush 0, .jsr 0]
def b2120_5 : List Instr := [.aload 0, .invokeinterface 2123 1, .aload 0, .iload 1, .invokeinterface 2124 2, .istore 2, .sipush 0, .istore 3, .goto_w 6]
def b2120_6 : List Instr := [.iload 3, .aload 0, .getfield 33840, .if_icmp .ge 7, .aload 0, .getfield 34043, .iload 3, .aload 0, .getfield 33971, .iload 3, .iaload, .iastore, .iinc 3 1, .goto 6]
def b2120_7 : List Instr := [.aload 0, .invokeinterface 2135 1, .iload 2, .jsr 0]
/-- TimberHouseModel$Plans.run(I)I -/
def m2120 : pm_M := (fun j => [b2120_0, b2120_1, b2120_2, b2120_3, b2120_4, b2120_5, b2120_6, b2120_7].getD j [], fun _ => [], 33, 4)
def b2121_0 : List Instr := [.sipush 1, .istore 1, .sipush 0, .istore 2, .goto_w 1]
def b2121_1 : List Instr := [.iload 2, .aload 0, .getfield 33840, .if_icmp .ge 4, .iload 1, .ifCond .eq 2, .aload 0, .iload 2, .invokeinterface 2122 2, .ifCond .eq 2, .sipush 1, .goto 3]
def b2121_2 : List Instr := [.sipush 0, .goto_w 3]
def b2121_3 : List Instr := [.istore 1, .iinc 2 1, .goto 1]
def b2121_4 : List Instr := [.iload 1, .jsr 2]
/-- TimberHouseModel$Plans.allFit()Z -/
def m2121 : pm_M := (fun j => [b2121_0, b2121_1, b2121_2, b2121_3, b2121_4].getD j [], fun _ => [], 33, 3)
def b2122_0 : List Instr := [.sipush 1, .istore 2, .sipush 0, .istore 3, .goto_w 1]
def b2122_1 : List Instr := [.iload 3, .aload 0, .getfield 33867, .iload 1, .iaload, .if_icmp .ge 9, .sipush 0, .istore 4, .sipush 0, .istore 5, .goto_w 2]
def b2122_2 : List Instr := [.iload 5, .aload 0, .getfield 33800, .if_icmp .ge 6, .iload 4, .ifCond .ne 3, .aload 0, .getfield 33811, .iload 5, .iaload, .aload 0, .getfield 33899, .aload 0, .getfield 33875, .sipush 4, .iload 1, .imul, .iload 3, .iadd, .iaload, .iaload, .if_icmp .ne 4, .goto_w 3]
def b2122_3 : List Instr := [.sipush 1, .goto 5]
def b2122_4 : List Instr := [.sipush 0, .goto_w 5]
def b2122_5 : List Instr := [.istore 4, .iinc 5 1, .goto 2]
def b2122_6 : List Instr := [.iload 2, .ifCond .eq 7, .iload 4, .ifCond .eq 7, .sipush 1, .goto 8]
def b2122_7 : List Instr := [.sipush 0, .goto_w 8]
def b2122_8 : List Instr := [.istore 2, .iinc 3 1, .goto 1]
def b2122_9 : List Instr := [.iload 2, .jsr 2]
/-- TimberHouseModel$Plans.fits(I)Z -/
def m2122 : pm_M := (fun j => [b2122_0, b2122_1, b2122_2, b2122_3, b2122_4, b2122_5, b2122_6, b2122_7, b2122_8, b2122_9].getD j [], fun _ => [], 33, 6)
def b2123_0 : List Instr := [.sipush 0, .istore 1, .goto_w 1]
def b2123_1 : List Instr := [.iload 1, .sipush 24, .if_icmp .ge 2, .aload 0, .getfield 33995, .iload 1, .aload 0, .getfield 33979, .iload 1, .iaload, .iastore, .aload 0, .getfield 34003, .iload 1, .aload 0, .getfield 33987, .iload 1, .iaload, .iastore, .iinc 1 1, .goto 1]
def b2123_2 : List Instr := [.return_]
/-- TimberHouseModel$Plans.keepWas()V -/
def m2123 : pm_M := (fun j => [b2123_0, b2123_1, b2123_2].getD j [], fun _ => [], 33, 2)
def b2124_0 : List Instr := [.aload 0, .invokeinterface 2125 1, .aload 0, .aload 0, .getfield 33840, .invokeinterface 2126 2, .lstore 2, .aload 0, .invokeinterface 2132 1, .aload 0, .sipush 0, .putfield 34024, .sipush 0, .istore 4, .goto_w 1]
def b2124_1 : List Instr := [.iload 4, .aload 0, .getfield 33840, .if_icmp .ge 2, .aload 0, .getfield 34059, .iload 4, .sipush 0, .bastore, .iinc 4 1, .goto 1]
def b2124_2 : List Instr := [.sipush 0, .istore 4, .aload 0, .getfield 34051, .sipush 0, .sipush 0, .iastore, .goto_w 3]
def b2124_3 : List Instr := [.iload 4, .ifCond .lt 10, .aload 0, .getfield 34051, .iload 4, .iaload, .istore 5, .iload 5, .aload 0, .getfield 33840, .if_icmp .ne 4, .iinc 4 (-1), .iload 4, .ifCond .lt 9, .aload 0, .getfield 34059, .aload 0, .getfield 34043, .iload 4, .iaload, .sipush 0, .bastore, .aload 0, .getfield 34051, .iload 4, .dup2, .iaload, .sipush 1, .iadd, .iastore, .goto 9]
def b2124_4 : List Instr := [.aload 0, .getfield 34059, .iload 5, .baload, .ifCond .eq 5, .aload 0, .getfield 34051, .iload 4, .dup2, .iaload, .sipush 1, .iadd, .iastore, .goto 9]
def b2124_5 : List Instr := [.aload 0, .getfield 34024, .iload 1, .if_icmp .ne 6, .sipush 1, .jsr 0]
def b2124_6 : List Instr := [.aload 0, .dup, .getfield 34024, .sipush 1, .iadd, .putfield 34024, .aload 0, .getfield 34043, .iload 4, .iload 5, .iastore, .aload 0, .iload 4, .sipush 1, .iadd, .invokeinterface 2133 2, .lstore 6, .lload 6, .lload 2, .lcmp, .ifCond .ge 7, .iload 4, .sipush 1, .iadd, .aload 0, .getfield 33840, .if_icmp .ne 7, .lload 6, .lstore 2, .aload 0, .invokeinterface 2132 1, .goto_w 7]
def b2124_7 : List Instr := [.lload 6, .lload 2, .lcmp, .ifCond .ge 8, .iload 4, .sipush 1, .iadd, .aload 0, .getfield 33840, .if_icmp .ge 8, .aload 0, .getfield 34059, .iload 5, .sipush 1, .bastore, .iinc 4 1, .aload 0, .getfield 34051, .iload 4, .sipush 0, .iastore, .goto 9]
def b2124_8 : List Instr := [.aload 0, .getfield 34051, .iload 4, .dup2, .iaload, .sipush 1, .iadd, .iastore, .goto_w 9]
def b2124_9 : List Instr := [.goto 3]
def b2124_10 : List Instr := [.sipush 0, .jsr 0]
/-- TimberHouseModel$Plans.search(I)I -/
def m2124 : pm_M := (fun j => [b2124_0, b2124_1, b2124_2, b2124_3, b2124_4, b2124_5, b2124_6, b2124_7, b2124_8, b2124_9, b2124_10].getD j [], fun _ => [], 33, 8)
def b2125_0 : List Instr := [.sipush 0, .istore 1, .goto_w 1]
def b2125_1 : List Instr := [.iload 1, .aload 0, .getfield 33840, .if_icmp .ge 2, .aload 0, .getfield 34059, .iload 1, .sipush 0, .bastore, .iinc 1 1, .goto 1]
def b2125_2 : List Instr := [.sipush 0, .istore 1, .goto_w 3]
def b2125_3 : List Instr := [.iload 1, .aload 0, .getfield 33840, .if_icmp .ge 9, .sipush (-1), .istore 2, .sipush 0, .istore 3, .goto_w 4]
def b2125_4 : List Instr := [.iload 3, .aload 0, .getfield 33840, .if_icmp .ge 8, .aload 0, .getfield 34059, .iload 3, .baload, .ifCond .ne 6, .iload 2, .sipush (-1), .if_icmp .eq 5, .aload 0, .getfield 33851, .iload 3, .iaload, .aload 0, .getfield 33851, .iload 2, .iaload, .if_icmp .ge 6, .goto_w 5]
def b2125_5 : List Instr := [.iload 3, .goto 7]
def b2125_6 : List Instr := [.iload 2, .goto_w 7]
def b2125_7 : List Instr := [.istore 2, .iinc 3 1, .goto 4]
def b2125_8 : List Instr := [.aload 0, .getfield 34043, .iload 1, .iload 2, .iastore, .aload 0, .getfield 34059, .iload 2, .sipush 1, .bastore, .iinc 1 1, .goto 3]
def b2125_9 : List Instr := [.return_]
/-- TimberHouseModel$Plans.layByDue()V -/
def m2125 : pm_M := (fun j => [b2125_0, b2125_1, b2125_2, b2125_3, b2125_4, b2125_5, b2125_6, b2125_7, b2125_8, b2125_9].getD j [], fun _ => [], 33, 4)
def b2126_0 : List Instr := [.aload 0, .invokeinterface 2127 1, .bipush 0, .lstore 2, .sipush 0, .istore 4, .goto_w 1]
def b2126_1 : List Instr := [.iload 4, .iload 1, .if_icmp .ge 2, .lload 2, .aload 0, .aload 0, .getfield 34043, .iload 4, .iaload, .aload 0, .aload 0, .getfield 34043, .iload 4, .iaload, .invokeinterface 2128 2, .invokeinterface 2131 3, .ladd, .lstore 2, .iinc 4 1, .goto 1]
def b2126_2 : List Instr := [.lload 2, .lreturn]
/-- TimberHouseModel$Plans.costOfRow(I)J -/
def m2126 : pm_M := (fun j => [b2126_0, b2126_1, b2126_2].getD j [], fun _ => [], 33, 5)
def b2127_0 : List Instr := [.sipush 0, .istore 1, .goto_w 1]
def b2127_1 : List Instr := [.iload 1, .sipush 24, .if_icmp .ge 2, .aload 0, .getfield 33931, .iload 1, .sipush (-1), .iastore, .aload 0, .getfield 33939, .iload 1, .sipush (-1), .iastore, .iinc 1 1, .goto 1]
def b2127_2 : List Instr := [.return_]
/-- TimberHouseModel$Plans.clearBoard()V -/
def m2127 : pm_M := (fun j => [b2127_0, b2127_1, b2127_2].getD j [], fun _ => [], 33, 2)
def b2128_0 : List Instr := [.sipush 0, .istore 2, .sipush 0, .istore 3, .sipush 0, .istore 4, .goto_w 1]
def b2128_1 : List Instr := [.iload 4, .aload 0, .getfield 33867, .iload 1, .iaload, .if_icmp .ge 8, .aload 0, .getfield 33875, .sipush 4, .iload 1, .imul, .iload 4, .iadd, .iaload, .istore 5, .sipush (-1), .istore 6, .sipush 0, .istore 7, .sipush 0, .istore 8, .goto_w 2]
def b2128_2 : List Instr := [.iload 8, .aload 0, .getfield 33800, .if_icmp .ge 7, .aload 0, .getfield 33811, .iload 8, .iaload, .aload 0, .getfield 33899, .iload 5, .iaload, .if_icmp .ne 3, .aload 0, .iload 8, .iload 2, .aload 0, .getfield 33907, .iload 5, .iaload, .invokeinterface 2129 4, .goto 4]
def b2128_3 : List Instr := [.sipush 0, .goto_w 4]
def b2128_4 : List Instr := [.istore 9, .aload 0, .getfield 33811, .iload 8, .iaload, .aload 0, .getfield 33899, .iload 5, .iaload, .if_icmp .ne 6, .iload 6, .sipush (-1), .if_icmp .eq 5, .iload 9, .iload 7, .if_icmp .ge 6, .goto_w 5]
def b2128_5 : List Instr := [.iload 8, .istore 6, .iload 9, .istore 7, .goto_w 6]
def b2128_6 : List Instr := [.iinc 8 1, .goto 2]
def b2128_7 : List Instr := [.aload 0, .getfield 33931, .iload 5, .iload 7, .iastore, .aload 0, .getfield 33939, .iload 5, .iload 6, .iastore, .iload 7, .aload 0, .getfield 33907, .iload 5, .iaload, .iadd, .istore 3, .iload 3, .aload 0, .getfield 33915, .iload 5, .iaload, .iadd, .istore 2, .iinc 4 1, .goto 1]
def b2128_8 : List Instr := [.iload 3, .jsr 0]
/-- TimberHouseModel$Plans.place(I)I -/
def m2128 : pm_M := (fun j => [b2128_0, b2128_1, b2128_2, b2128_3, b2128_4, b2128_5, b2128_6, b2128_7, b2128_8].getD j [], fun _ => [], 33, 10)
def b2129_0 : List Instr := [.iload 2, .istore 4, .sipush 1, .istore 5, .goto_w 1]
def b2129_1 : List Instr := [.iload 5, .ifCond .eq 8, .sipush 0, .istore 5, .sipush 0, .istore 6, .goto_w 2]
def b2129_2 : List Instr := [.iload 6, .aload 0, .getfield 33880, .if_icmp .ge 4, .aload 0, .getfield 33939, .iload 6, .iaload, .iload 1, .if_icmp .ne 3, .iload 4, .iload 4, .iload 3, .iadd, .aload 0, .getfield 33931, .iload 6, .iaload, .aload 0, .getfield 33931, .iload 6, .iaload, .aload 0, .getfield 33907, .iload 6, .iaload, .iadd, .invokeinterface 2130 4, .ifCond .eq 3, .aload 0, .getfield 33931, .iload 6, .iaload, .aload 0, .getfield 33907, .iload 6, .iaload, .iadd, .istore 4, .sipush 1, .istore 5, .goto_w 3]
def b2129_3 : List Instr := [.iinc 6 1, .goto 2]
def b2129_4 : List Instr := [.sipush 8, .iload 1, .imul, .istore 6, .goto_w 5]
def b2129_5 : List Instr := [.iload 6, .sipush 8, .iload 1, .imul, .aload 0, .getfield 33819, .iload 1, .iaload, .iadd, .if_icmp .ge 7, .iload 4, .iload 4, .iload 3, .iadd, .aload 0, .getfield 33827, .iload 6, .iaload, .aload 0, .getfield 33835, .iload 6, .iaload, .invokeinterface 2130 4, .ifCond .eq 6, .aload 0, .getfield 33835, .iload 6, .iaload, .istore 4, .sipush 1, .istore 5, .goto_w 6]
def b2129_6 : List Instr := [.iinc 6 1, .goto 5]
def b2129_7 : List Instr := [.goto 1]
def b2129_8 : List Instr := [.iload 4, .jsr 0]
/-- TimberHouseModel$Plans.freeFrom(III)I -/
def m2129 : pm_M := (fun j => [b2129_0, b2129_1, b2129_2, b2129_3, b2129_4, b2129_5, b2129_6, b2129_7, b2129_8].getD j [], fun _ => [], 33, 7)
def b2130_0 : List Instr := [.iload 0, .iload 3, .if_icmp .ge 1, .iload 2, .iload 1, .if_icmp .ge 1, .sipush 1, .goto 2]
def b2130_1 : List Instr := [.sipush 0, .goto_w 2]
def b2130_2 : List Instr := [.jsr 2]
/-- TimberHouseModel$Plans.meets(IIII)Z -/
def m2130 : pm_M := (fun j => [b2130_0, b2130_1, b2130_2].getD j [], fun _ => [], 0, 4)
def b2131_0 : List Instr := [.iload 2, .aload 0, .getfield 33851, .iload 1, .iaload, .if_icmp .le 1, .aload 0, .getfield 33859, .iload 1, .iaload, .i2l, .iload 2, .aload 0, .getfield 33851, .iload 1, .iaload, .isub, .i2l, .lmul, .goto 2]
def b2131_1 : List Instr := [.bipush 0, .goto_w 2]
def b2131_2 : List Instr := [.lreturn]
/-- TimberHouseModel$Plans.costOf(II)J -/
def m2131 : pm_M := (fun j => [b2131_0, b2131_1, b2131_2].getD j [], fun _ => [], 33, 3)
def b2132_0 : List Instr := [.sipush 0, .istore 1, .goto_w 1]
def b2132_1 : List Instr := [.iload 1, .aload 0, .getfield 33840, .if_icmp .ge 2, .aload 0, .getfield 33971, .iload 1, .aload 0, .getfield 34043, .iload 1, .iaload, .iastore, .iinc 1 1, .goto 1]
def b2132_2 : List Instr := [.return_]
/-- TimberHouseModel$Plans.toPlan()V -/
def m2132 : pm_M := (fun j => [b2132_0, b2132_1, b2132_2].getD j [], fun _ => [], 33, 2)
def b2133_0 : List Instr := [.aload 0, .iload 1, .invokeinterface 2126 2, .lstore 2, .sipush 0, .istore 4, .goto_w 1]
def b2133_1 : List Instr := [.iload 4, .aload 0, .getfield 33840, .if_icmp .ge 9, .sipush 0, .istore 5, .sipush 0, .istore 6, .goto_w 2]
def b2133_2 : List Instr := [.iload 6, .iload 1, .if_icmp .ge 6, .iload 5, .ifCond .ne 3, .aload 0, .getfield 34043, .iload 6, .iaload, .iload 4, .if_icmp .ne 4, .goto_w 3]
def b2133_3 : List Instr := [.sipush 1, .goto 5]
def b2133_4 : List Instr := [.sipush 0, .goto_w 5]
def b2133_5 : List Instr := [.istore 5, .iinc 6 1, .goto 2]
def b2133_6 : List Instr := [.lload 2, .iload 5, .ifCond .eq 7, .bipush 0, .goto 8]
def b2133_7 : List Instr := [.aload 0, .iload 4, .invokeinterface 2134 2, .goto_w 8]
def b2133_8 : List Instr := [.ladd, .lstore 2, .iinc 4 1, .goto 1]
def b2133_9 : List Instr := [.lload 2, .lreturn]
/-- TimberHouseModel$Plans.least(I)J -/
def m2133 : pm_M := (fun j => [b2133_0, b2133_1, b2133_2, b2133_3, b2133_4, b2133_5, b2133_6, b2133_7, b2133_8, b2133_9].getD j [], fun _ => [], 33, 7)
def b2134_0 : List Instr := [.aload 0, .invokeinterface 2127 1, .aload 0, .iload 1, .aload 0, .iload 1, .invokeinterface 2128 2, .invokeinterface 2131 3, .lreturn]
/-- TimberHouseModel$Plans.aloneOf(I)J -/
def m2134 : pm_M := (fun j => [b2134_0].getD j [], fun _ => [], 33, 2)
def b2135_0 : List Instr := [.aload 0, .aload 0, .aload 0, .getfield 33840, .invokeinterface 2126 2, .putfield 34009, .aload 0, .sipush 0, .putfield 34032, .sipush 0, .istore 1, .goto_w 1]
def b2135_1 : List Instr := [.iload 1, .sipush 24, .if_icmp .ge 9, .aload 0, .getfield 33979, .iload 1, .iload 1, .aload 0, .getfield 33880, .if_icmp .ge 2, .aload 0, .getfield 33931, .iload 1, .iaload, .goto 3]
def b2135_2 : List Instr := [.sipush (-1), .goto_w 3]
def b2135_3 : List Instr := [.iastore, .aload 0, .getfield 33987, .iload 1, .iload 1, .aload 0, .getfield 33880, .if_icmp .ge 4, .aload 0, .getfield 33939, .iload 1, .iaload, .goto 5]
def b2135_4 : List Instr := [.sipush (-1), .goto_w 5]
def b2135_5 : List Instr := [.iastore, .aload 0, .dup, .getfield 34032, .iload 1, .aload 0, .getfield 33880, .if_icmp .ge 7, .aload 0, .getfield 33979, .iload 1, .iaload, .aload 0, .getfield 33995, .iload 1, .iaload, .if_icmp .ne 6, .aload 0, .getfield 33987, .iload 1, .iaload, .aload 0, .getfield 34003, .iload 1, .iaload, .if_icmp .eq 7, .goto_w 6]
def b2135_6 : List Instr := [.sipush 1, .goto 8]
def b2135_7 : List Instr := [.sipush 0, .goto_w 8]
def b2135_8 : List Instr := [.iadd, .putfield 34032, .iinc 1 1, .goto 1]
def b2135_9 : List Instr := [.sipush 0, .istore 1, .goto_w 10]
def b2135_10 : List Instr := [.iload 1, .aload 0, .getfield 33840, .if_icmp .ge 11, .aload 0, .getfield 33971, .iload 1, .aload 0, .getfield 34043, .iload 1, .iaload, .iastore, .iinc 1 1, .goto 10]
def b2135_11 : List Instr := [.aload 0, .aload 0, .getfield 33840, .putfield 33960, .aload 0, .bipush 0, .putfield 34017, .sipush 0, .istore 1, .goto_w 12]
def b2135_12 : List Instr := [.iload 1, .aload 0, .getfield 33840, .if_icmp .ge 13, .aload 0, .dup, .getfield 34017, .aload 0, .iload 1, .invokeinterface 2134 2, .ladd, .putfield 34017, .iinc 1 1, .goto 12]
def b2135_13 : List Instr := [.aload 0, .sipush 1, .putfield 33946, .aload 0, .sipush 1, .putfield 33954, .return_]
/-- TimberHouseModel$Plans.become()V -/
def m2135 : pm_M := (fun j => [b2135_0, b2135_1, b2135_2, b2135_3, b2135_4, b2135_5, b2135_6, b2135_7, b2135_8, b2135_9, b2135_10, b2135_11, b2135_12, b2135_13].getD j [], fun _ => [], 33, 2)
def b2136_0 : List Instr := [.aload 0, .iload 1, .sipush 0, .sipush 100, .invokeinterface 2114 3, .ifCond .ne 1, .sipush 1, .goto 4]
def b2136_1 : List Instr := [.aload 0, .getfield 33946, .ifCond .eq 2, .aload 0, .getfield 33954, .ifCond .ne 3, .goto_w 2]
def b2136_2 : List Instr := [.sipush 2, .goto 4]
def b2136_3 : List Instr := [.sipush 0, .goto_w 4]
def b2136_4 : List Instr := [.putfield 33792, .aload 0, .getfield 33792, .ifCond .le 5, .sipush 0, .jsr 0]
def b2136_5 : List Instr := [.aload 0, .invokeinterface 2123 1, .sipush 0, .istore 2, .goto_w 6]
def b2136_6 : List Instr := [.iload 2, .aload 0, .getfield 33840, .if_icmp .ge 7, .aload 0, .getfield 34043, .iload 2, .aload 0, .getfield 33971, .iload 2, .iaload, .iastore, .iinc 2 1, .goto 6]
def b2136_7 : List Instr := [.aload 0, .aload 0, .getfield 33840, .invokeinterface 2126 2, .lstore 2, .sipush 0, .istore 4, .sipush 0, .istore 5, .goto_w 8]
def b2136_8 : List Instr := [.iload 5, .iload 1, .if_icmp .ge 11, .aload 0, .invokeinterface 2137 1, .istore 6, .aload 0, .invokeinterface 2137 1, .istore 7, .aload 0, .iload 6, .iload 7, .invokeinterface 2138 3, .aload 0, .aload 0, .getfield 33840, .invokeinterface 2126 2, .lstore 8, .lload 8, .lload 2, .lcmp, .ifCond .ge 9, .lload 8, .lstore 2, .iinc 4 1, .goto 10]
def b2136_9 : List Instr := [.aload 0, .iload 6, .iload 7, .invokeinterface 2138 3, .goto_w 10]
def b2136_10 : List Instr := [.iinc 5 1, .goto 8]
def b2136_11 : List Instr := [.aload 0, .invokeinterface 2135 1, .iload 4, .jsr 0]
/-- TimberHouseModel$Plans.improve(I)I -/
def m2136 : pm_M := (fun j => [b2136_0, b2136_1, b2136_2, b2136_3, b2136_4, b2136_5, b2136_6, b2136_7, b2136_8, b2136_9, b2136_10, b2136_11].getD j [], fun _ => [], 33, 10)
def b2137_0 : List Instr := [.aload 0, .aload 0, .getfield 33921, .bipush 6364136223846793005, .lmul, .bipush 1442695040888963407, .ladd, .putfield 33921, .aload 0, .getfield 33921, .sipush 33, .lushr, .aload 0, .getfield 33840, .i2l, .lrem, .l2i, .jsr 0]
/-- TimberHouseModel$Plans.draw()I -/
def m2137 : pm_M := (fun j => [b2137_0].getD j [], fun _ => [], 33, 1)
def b2138_0 : List Instr := [.aload 0, .getfield 34043, .iload 1, .iaload, .istore 3, .aload 0, .getfield 34043, .iload 1, .aload 0, .getfield 34043, .iload 2, .iaload, .iastore, .aload 0, .getfield 34043, .iload 2, .iload 3, .iastore, .return_]
/-- TimberHouseModel$Plans.swap(II)V -/
def m2138 : pm_M := (fun j => [b2138_0].getD j [], fun _ => [], 33, 4)
def b2139_0 : List Instr := [.aload 0, .iload 1, .sipush 0, .aload 0, .getfield 33880, .sipush 1, .isub, .invokeinterface 2114 3, .ifCond .eq 1, .iload 2, .sipush 0, .sipush 1, .invokeinterface 2114 3, .ifCond .ne 2, .goto_w 1]
def b2139_1 : List Instr := [.sipush 1, .goto 4]
def b2139_2 : List Instr := [.aload 0, .getfield 33946, .ifCond .ne 3, .sipush 2, .goto 4]
def b2139_3 : List Instr := [.sipush 0, .goto_w 4]
def b2139_4 : List Instr := [.putfield 33792, .aload 0, .getfield 33792, .ifCond .le 5, .sipush 0, .goto 7]
def b2139_5 : List Instr := [.iload 2, .ifCond .ne 6, .aload 0, .getfield 33979, .iload 1, .iaload, .goto 7]
def b2139_6 : List Instr := [.aload 0, .getfield 33987, .iload 1, .iaload, .goto_w 7]
def b2139_7 : List Instr := [.jsr 0]
/-- TimberHouseModel$Plans.at(II)I -/
def m2139 : pm_M := (fun j => [b2139_0, b2139_1, b2139_2, b2139_3, b2139_4, b2139_5, b2139_6, b2139_7].getD j [], fun _ => [], 33, 3)
def b2140_0 : List Instr := [.aload 0, .aload 0, .getfield 33946, .ifCond .ne 1, .sipush 1, .goto 3]
def b2140_1 : List Instr := [.iload 1, .sipush 0, .aload 0, .getfield 33960, .sipush 1, .isub, .invokeinterface 2114 3, .ifCond .ne 2, .sipush 2, .goto 3]
def b2140_2 : List Instr := [.sipush 0, .goto_w 3]
def b2140_3 : List Instr := [.putfield 33792, .aload 0, .getfield 33792, .ifCond .le 4, .sipush 0, .goto 5]
def b2140_4 : List Instr := [.aload 0, .getfield 33971, .iload 1, .iaload, .goto_w 5]
def b2140_5 : List Instr := [.jsr 0]
/-- TimberHouseModel$Plans.order(I)I -/
def m2140 : pm_M := (fun j => [b2140_0, b2140_1, b2140_2, b2140_3, b2140_4, b2140_5].getD j [], fun _ => [], 33, 2)
def b2141_0 : List Instr := [.aload 0, .iload 1, .sipush 0, .sipush 3, .invokeinterface 2114 3, .ifCond .ne 1, .sipush 1, .goto 3]
def b2141_1 : List Instr := [.aload 0, .getfield 33946, .ifCond .ne 2, .sipush 2, .goto 3]
def b2141_2 : List Instr := [.sipush 0, .goto_w 3]
def b2141_3 : List Instr := [.putfield 33792, .aload 0, .getfield 33792, .ifCond .le 4, .bipush 0, .goto 8]
def b2141_4 : List Instr := [.iload 1, .ifCond .ne 5, .aload 0, .getfield 34009, .goto 8]
def b2141_5 : List Instr := [.iload 1, .sipush 1, .if_icmp .ne 6, .aload 0, .getfield 34017, .goto 8]
def b2141_6 : List Instr := [.iload 1, .sipush 2, .if_icmp .ne 7, .aload 0, .getfield 34024, .i2l, .goto 8]
def b2141_7 : List Instr := [.aload 0, .getfield 34032, .i2l, .goto_w 8]
def b2141_8 : List Instr := [.lreturn]
/-- TimberHouseModel$Plans.about(I)J -/
def m2141 : pm_M := (fun j => [b2141_0, b2141_1, b2141_2, b2141_3, b2141_4, b2141_5, b2141_6, b2141_7, b2141_8].getD j [], fun _ => [], 33, 2)
def b2142_0 : List Instr := [.aload 0, .iload 1, .sipush 0, .aload 0, .getfield 33840, .sipush 1, .isub, .invokeinterface 2114 3, .ifCond .ne 1, .sipush 1, .goto 3]
def b2142_1 : List Instr := [.aload 0, .iload 1, .invokeinterface 2122 2, .ifCond .ne 2, .sipush 2, .goto 3]
def b2142_2 : List Instr := [.sipush 0, .goto_w 3]
def b2142_3 : List Instr := [.putfield 33792, .aload 0, .getfield 33792, .ifCond .le 4, .bipush 0, .goto 5]
def b2142_4 : List Instr := [.aload 0, .iload 1, .invokeinterface 2134 2, .goto_w 5]
def b2142_5 : List Instr := [.lreturn]
/-- TimberHouseModel$Plans.alone(I)J -/
def m2142 : pm_M := (fun j => [b2142_0, b2142_1, b2142_2, b2142_3, b2142_4, b2142_5].getD j [], fun _ => [], 33, 2)
def b2143_0 : List Instr := [.aload 0, .iload 1, .sipush 0, .aload 0, .getfield 33840, .sipush 1, .isub, .invokeinterface 2114 3, .ifCond .ne 1, .sipush 1, .goto 4]
def b2143_1 : List Instr := [.aload 0, .getfield 33946, .ifCond .eq 2, .aload 0, .getfield 33954, .ifCond .ne 3, .goto_w 2]
def b2143_2 : List Instr := [.sipush 2, .goto 4]
def b2143_3 : List Instr := [.sipush 0, .goto_w 4]
def b2143_4 : List Instr := [.putfield 33792, .aload 0, .getfield 33792, .ifCond .le 5, .sipush 0, .jsr 0]
def b2143_5 : List Instr := [.sipush 0, .istore 2, .goto_w 6]
def b2143_6 : List Instr := [.iload 2, .sipush 24, .if_icmp .ge 13, .iload 2, .aload 0, .getfield 33880, .if_icmp .ge 7, .aload 0, .getfield 33891, .iload 2, .iaload, .iload 1, .if_icmp .ne 7, .sipush 1, .goto 8]
def b2143_7 : List Instr := [.sipush 0, .goto_w 8]
def b2143_8 : List Instr := [.istore 3, .aload 0, .getfield 33931, .iload 2, .iload 3, .ifCond .eq 9, .sipush (-1), .goto 10]
def b2143_9 : List Instr := [.aload 0, .getfield 33979, .iload 2, .iaload, .goto_w 10]
def b2143_10 : List Instr := [.iastore, .aload 0, .getfield 33939, .iload 2, .iload 3, .ifCond .eq 11, .sipush (-1), .goto 12]
def b2143_11 : List Instr := [.aload 0, .getfield 33987, .iload 2, .iaload, .goto_w 12]
def b2143_12 : List Instr := [.iastore, .iinc 2 1, .goto 6]
def b2143_13 : List Instr := [.aload 0, .iload 1, .invokeinterface 2128 2, .jsr 0]
/-- TimberHouseModel$Plans.promise(I)I -/
def m2143 : pm_M := (fun j => [b2143_0, b2143_1, b2143_2, b2143_3, b2143_4, b2143_5, b2143_6, b2143_7, b2143_8, b2143_9, b2143_10, b2143_11, b2143_12, b2143_13].getD j [], fun _ => [], 33, 4)
def b2144_0 : List Instr := [.aload 0, .iload 1, .ifCond .ge 1, .sipush 1, .goto 3]
def b2144_1 : List Instr := [.aload 0, .invokeinterface 2121 1, .ifCond .ne 2, .sipush 2, .goto 3]
def b2144_2 : List Instr := [.sipush 0, .goto_w 3]
def b2144_3 : List Instr := [.putfield 33792, .sipush 0, .istore 2, .sipush 0, .istore 3, .goto_w 4]
def b2144_4 : List Instr := [.iload 3, .aload 0, .getfield 33840, .if_icmp .ge 9, .aload 0, .getfield 33792, .ifCond .ne 9, .iload 3, .sipush 1, .iadd, .istore 4, .goto_w 5]
def b2144_5 : List Instr := [.iload 4, .aload 0, .getfield 33840, .if_icmp .ge 8, .aload 0, .iload 3, .invokeinterface 2134 2, .bipush 0, .lcmp, .ifCond .ne 7, .aload 0, .iload 4, .invokeinterface 2134 2, .bipush 0, .lcmp, .ifCond .ne 7, .aload 0, .iload 3, .iload 4, .invokeinterface 2145 3, .ifCond .ne 7, .aload 0, .iload 4, .iload 3, .invokeinterface 2145 3, .ifCond .ne 7, .iload 2, .iload 1, .if_icmp .ne 6, .sipush 8, .iload 3, .imul, .iload 4, .iadd, .jsr 0]
def b2144_6 : List Instr := [.iinc 2 1, .goto_w 7]
def b2144_7 : List Instr := [.iinc 4 1, .goto 5]
def b2144_8 : List Instr := [.iinc 3 1, .goto 4]
def b2144_9 : List Instr := [.aload 0, .getfield 33792, .ifCond .le 10, .sipush 0, .goto 11]
def b2144_10 : List Instr := [.sipush (-1), .goto_w 11]
def b2144_11 : List Instr := [.jsr 0]
/-- TimberHouseModel$Plans.clash(I)I -/
def m2144 : pm_M := (fun j => [b2144_0, b2144_1, b2144_2, b2144_3, b2144_4, b2144_5, b2144_6, b2144_7, b2144_8, b2144_9, b2144_10, b2144_11].getD j [], fun _ => [], 33, 5)
def b2145_0 : List Instr := [.aload 0, .getfield 34043, .sipush 0, .iload 1, .iastore, .aload 0, .getfield 34043, .sipush 1, .iload 2, .iastore, .aload 0, .sipush 2, .invokeinterface 2126 2, .bipush 0, .lcmp, .ifCond .ne 1, .sipush 1, .goto 2]
def b2145_1 : List Instr := [.sipush 0, .goto_w 2]
def b2145_2 : List Instr := [.jsr 2]
/-- TimberHouseModel$Plans.canBoth(II)Z -/
def m2145 : pm_M := (fun j => [b2145_0, b2145_1, b2145_2].getD j [], fun _ => [], 33, 3)
def b2146_0 : List Instr := [.aload 0, .aload 0, .getfield 33946, .ifCond .eq 1, .sipush 0, .goto 2]
def b2146_1 : List Instr := [.sipush 1, .goto_w 2]
def b2146_2 : List Instr := [.putfield 33792, .sipush 1, .istore 1, .goto_w 3]
def b2146_3 : List Instr := [.iload 1, .sipush 5, .if_icmp .ge 7, .aload 0, .getfield 33792, .ifCond .ne 7, .sipush 0, .istore 2, .goto_w 4]
def b2146_4 : List Instr := [.iload 2, .aload 0, .getfield 33880, .if_icmp .ge 6, .aload 0, .iload 1, .iload 2, .invokeinterface 2147 3, .ifCond .eq 5, .sipush 100, .iload 1, .imul, .iload 2, .iadd, .jsr 0]
def b2146_5 : List Instr := [.iinc 2 1, .goto 4]
def b2146_6 : List Instr := [.iinc 1 1, .goto 3]
def b2146_7 : List Instr := [.sipush 0, .istore 1, .goto_w 8]
def b2146_8 : List Instr := [.iload 1, .aload 0, .getfield 33840, .if_icmp .ge 10, .aload 0, .getfield 33792, .ifCond .ne 10, .aload 0, .iload 1, .invokeinterface 2149 2, .ifCond .eq 9, .sipush 500, .iload 1, .iadd, .jsr 0]
def b2146_9 : List Instr := [.iinc 1 1, .goto 8]
def b2146_10 : List Instr := [.sipush 0, .jsr 0]
/-- TimberHouseModel$Plans.check()I -/
def m2146 : pm_M := (fun j => [b2146_0, b2146_1, b2146_2, b2146_3, b2146_4, b2146_5, b2146_6, b2146_7, b2146_8, b2146_9, b2146_10].getD j [], fun _ => [], 33, 3)
def b2147_0 : List Instr := [.aload 0, .getfield 33979, .iload 2, .iaload, .istore 3, .iload 3, .aload 0, .getfield 33907, .iload 2, .iaload, .iadd, .istore 4, .aload 0, .getfield 33987, .iload 2, .iaload, .istore 5, .iload 1, .sipush 1, .if_icmp .ne 3, .iload 3, .sipush (-1), .if_icmp .ne 1, .sipush 1, .goto 2]
def b2147_1 : List Instr := [.sipush 0, .goto_w 2]
def b2147_2 : List Instr := [.jsr 2]
def b2147_3 : List Instr := [.iload 1, .sipush 2, .if_icmp .ne 6, .aload 0, .iload 2, .invokeinterface 2148 2, .istore 6, .iload 6, .sipush (-1), .if_icmp .eq 4, .iload 3, .aload 0, .getfield 33979, .iload 6, .iaload, .aload 0, .getfield 33907, .iload 6, .iaload, .iadd, .aload 0, .getfield 33915, .iload 6, .iaload, .iadd, .if_icmp .ge 4, .sipush 1, .goto 5]
def b2147_4 : List Instr := [.sipush 0, .goto_w 5]
def b2147_5 : List Instr := [.jsr 2]
def b2147_6 : List Instr := [.sipush 0, .istore 6, .sipush 0, .istore 7, .goto_w 7]
def b2147_7 : List Instr := [.iload 7, .iload 2, .if_icmp .ge 11, .iload 1, .sipush 3, .if_icmp .ne 11, .iload 6, .ifCond .ne 8, .aload 0, .getfield 33987, .iload 7, .iaload, .iload 5, .if_icmp .ne 9, .iload 3, .iload 4, .aload 0, .getfield 33979, .iload 7, .iaload, .aload 0, .getfield 33979, .iload 7, .iaload, .aload 0, .getfield 33907, .iload 7, .iaload, .iadd, .invokeinterface 2130 4, .ifCond .eq 9, .goto_w 8]
def b2147_8 : List Instr := [.sipush 1, .goto 10]
def b2147_9 : List Instr := [.sipush 0, .goto_w 10]
def b2147_10 : List Instr := [.istore 6, .iinc 7 1, .goto 7]
def b2147_11 : List Instr := [.sipush 8, .iload 5, .imul, .istore 7, .goto_w 12]
def b2147_12 : List Instr := [.iload 7, .sipush 8, .iload 5, .imul, .aload 0, .getfield 33819, .iload 5, .iaload, .iadd, .if_icmp .ge 16, .iload 1, .sipush 4, .if_icmp .ne 16, .iload 6, .ifCond .ne 13, .iload 3, .iload 4, .aload 0, .getfield 33827, .iload 7, .iaload, .aload 0, .getfield 33835, .iload 7, .iaload, .invokeinterface 2130 4, .ifCond .eq 14, .goto_w 13]
def b2147_13 : List Instr := [.sipush 1, .goto 15]
def b2147_14 : List Instr := [.sipush 0, .goto_w 15]
def b2147_15 : List Instr := [.istore 6, .iinc 7 1, .goto 12]
def b2147_16 : List Instr := [.iload 6, .jsr 2]
/-- TimberHouseModel$Plans.breaks(II)Z -/
def m2147 : pm_M := (fun j => [b2147_0, b2147_1, b2147_2, b2147_3, b2147_4, b2147_5, b2147_6, b2147_7, b2147_8, b2147_9, b2147_10, b2147_11, b2147_12, b2147_13, b2147_14, b2147_15, b2147_16].getD j [], fun _ => [], 33, 8)
def b2148_0 : List Instr := [.sipush (-1), .istore 2, .sipush 0, .istore 3, .goto_w 1]
def b2148_1 : List Instr := [.iload 3, .iload 1, .if_icmp .ge 4, .aload 0, .getfield 33891, .iload 3, .iaload, .aload 0, .getfield 33891, .iload 1, .iaload, .if_icmp .ne 2, .iload 3, .goto 3]
def b2148_2 : List Instr := [.iload 2, .goto_w 3]
def b2148_3 : List Instr := [.istore 2, .iinc 3 1, .goto 1]
def b2148_4 : List Instr := [.iload 2, .jsr 0]
/-- TimberHouseModel$Plans.before(I)I -/
def m2148 : pm_M := (fun j => [b2148_0, b2148_1, b2148_2, b2148_3, b2148_4].getD j [], fun _ => [], 33, 4)
def b2149_0 : List Instr := [.aload 0, .getfield 33867, .iload 1, .iaload, .ifCond .ne 1, .sipush (-1), .goto 2]
def b2149_1 : List Instr := [.aload 0, .getfield 33875, .sipush 4, .iload 1, .imul, .aload 0, .getfield 33867, .iload 1, .iaload, .iadd, .sipush 1, .isub, .iaload, .goto_w 2]
def b2149_2 : List Instr := [.istore 2, .iload 2, .sipush (-1), .if_icmp .eq 3, .aload 0, .getfield 33979, .iload 2, .iaload, .aload 0, .getfield 33907, .iload 2, .iaload, .iadd, .aload 0, .getfield 33851, .iload 1, .iaload, .if_icmp .le 3, .sipush 1, .goto 4]
def b2149_3 : List Instr := [.sipush 0, .goto_w 4]
def b2149_4 : List Instr := [.jsr 2]
/-- TimberHouseModel$Plans.isLate(I)Z -/
def m2149 : pm_M := (fun j => [b2149_0, b2149_1, b2149_2, b2149_3, b2149_4].getD j [], fun _ => [], 33, 3)
def b2176_0 : List Instr := [.aload 0, .f2i, .aload 0, .sipush 240, .newarray .int, .putfield 34827, .aload 0, .sipush 240, .newarray .int, .putfield 34843, .aload 0, .sipush 18, .newarray .int, .putfield 34851, .aload 0, .sipush 240, .newarray .int, .putfield 34867, .aload 0, .sipush 18, .newarray .int, .putfield 34875, .aload 0, .sipush 26, .newarray .long, .putfield 34883, .aload 0, .sipush 26, .newarray .long, .putfield 34891, .aload 0, .sipush 26, .newarray .boolean, .putfield 34899, .aload 0, .sipush 8, .newarray .long, .putfield 34907, .aload 0, .sipush 8, .newarray .long, .putfield 34915, .aload 0, .sipush 16, .newarray .long, .putfield 34955, .aload 0, .sipush 16, .newarray .long, .putfield 34963, .aload 0, .sipush 16, .newarray .int, .putfield 34971, .aload 0, .sipush 16, .newarray .int, .putfield 34979, .aload 0, .sipush 8, .newarray .int, .putfield 35011, .aload 0, .sipush 8, .newarray .int, .putfield 35019, .aload 0, .sipush 8, .newarray .int, .putfield 35027, .aload 0, .sipush 8, .newarray .long, .putfield 35043, .aload 0, .sipush 8, .newarray .int, .putfield 35051, .aload 0, .sipush 8, .newarray .long, .putfield 35067, .aload 0, .sipush 8, .newarray .long, .putfield 35075, .aload 0, .sipush 8, .newarray .long, .putfield 35083, .return_]
/-- TimberHouseModel$Prices.<init>()V -/
def m2176 : pm_M := (fun j => [b2176_0].getD j [], fun _ => [], 34, 1)
def b2177_0 : List Instr := [.aload 0, .sipush 0, .putfield 34816, .iload 1, .i2l, .bipush 32, .bipush 126, .invokeinterface 2178 3, .ifCond .eq 1, .aload 0, .getfield 34832, .sipush 240, .if_icmp .ge 1, .sipush 1, .goto 2]
def b2177_1 : List Instr := [.sipush 0, .goto_w 2]
def b2177_2 : List Instr := [.istore 2, .iload 2, .ifCond .eq 3, .aload 0, .getfield 34827, .aload 0, .getfield 34832, .iload 1, .iastore, .aload 0, .dup, .getfield 34832, .sipush 1, .iadd, .putfield 34832, .goto_w 3]
def b2177_3 : List Instr := [.iload 2, .jsr 2]
/-- TimberHouseModel$Prices.unit(I)Z -/
def m2177 : pm_M := (fun j => [b2177_0, b2177_1, b2177_2, b2177_3].getD j [], fun _ => [], 34, 3)
def b2178_0 : List Instr := [.lload 0, .lload 2, .lcmp, .ifCond .lt 1, .lload 0, .lload 4, .lcmp, .ifCond .gt 1, .sipush 1, .goto 2]
def b2178_1 : List Instr := [.sipush 0, .goto_w 2]
def b2178_2 : List Instr := [.jsr 2]
/-- TimberHouseModel$Prices.isIn(JJJ)Z -/
def m2178 : pm_M := (fun j => [b2178_0, b2178_1, b2178_2].getD j [], fun _ => [], 0, 6)
def b2179_0 : List Instr := [.aload 0, .getfield 34816, .jsr 0]
/-- TimberHouseModel$Prices.thrown()I -/
def m2179 : pm_M := (fun j => [b2179_0].getD j [], fun _ => [], 34, 1)
def b2180_0 : List Instr := [.aload 0, .sipush 0, .putfield 34816, .aload 0, .invokeinterface 2181 1, .istore 1, .aload 0, .sipush 0, .putfield 34832, .iload 1, .sipush (-1), .if_icmp .eq 1, .sipush (-1), .iload 1, .isub, .jsr 0]
def b2180_1 : List Instr := [.aload 0, .aload 0, .getfield 35088, .putfield 34856, .sipush 0, .istore 2, .goto_w 2]
def b2180_2 : List Instr := [.iload 2, .sipush 240, .if_icmp .ge 3, .aload 0, .getfield 34843, .iload 2, .aload 0, .getfield 34867, .iload 2, .iaload, .iastore, .iinc 2 1, .goto 2]
def b2180_3 : List Instr := [.sipush 0, .istore 2, .goto_w 4]
def b2180_4 : List Instr := [.iload 2, .aload 0, .getfield 34856, .if_icmp .gt 5, .aload 0, .getfield 34851, .iload 2, .aload 0, .getfield 34875, .iload 2, .iaload, .iastore, .iinc 2 1, .goto 4]
def b2180_5 : List Instr := [.aload 0, .getfield 34856, .jsr 0]
/-- TimberHouseModel$Prices.read()I -/
def m2180 : pm_M := (fun j => [b2180_0, b2180_1, b2180_2, b2180_3, b2180_4, b2180_5].getD j [], fun _ => [], 34, 3)
def b2181_0 : List Instr := [.sipush 0, .istore 1, .sipush 0, .istore 2, .sipush 0, .istore 3, .aload 0, .getfield 34875, .sipush 0, .sipush 0, .iastore, .sipush 0, .istore 4, .goto_w 1]
def b2181_1 : List Instr := [.iload 4, .aload 0, .getfield 34832, .if_icmp .ge 26, .aload 0, .getfield 34827, .iload 4, .iaload, .istore 5, .iload 5, .sipush 32, .if_icmp .ne 2, .iinc 4 1, .goto 1]
def b2181_2 : List Instr := [.iload 5, .invokeinterface 2182 1, .ifCond .ne 3, .iload 5, .sipush 97, .if_icmp .lt 4, .iload 5, .sipush 122, .if_icmp .gt 4, .iload 5, .sipush 114, .if_icmp .eq 4, .goto_w 3]
def b2181_3 : List Instr := [.sipush 1, .goto 5]
def b2181_4 : List Instr := [.sipush 0, .goto_w 5]
def b2181_5 : List Instr := [.istore 6, .iload 2, .sipush 16, .if_icmp .ge 10, .iload 6, .ifCond .eq 6, .iload 3, .sipush 6, .if_icmp .ge 10, .goto 9]
def b2181_6 : List Instr := [.iload 5, .invokeinterface 2183 1, .ifCond .eq 7, .iload 3, .sipush 1, .if_icmp .le 10, .goto 9]
def b2181_7 : List Instr := [.iload 5, .sipush 114, .if_icmp .ne 8, .iload 3, .ifCond .le 10, .goto 9]
def b2181_8 : List Instr := [.iload 5, .invokeinterface 2184 1, .ifCond .eq 10, .iload 3, .sipush 1, .if_icmp .ne 10, .goto_w 9]
def b2181_9 : List Instr := [.sipush 1, .goto 11]
def b2181_10 : List Instr := [.sipush 0, .goto_w 11]
def b2181_11 : List Instr := [.istore 7, .iload 7, .ifCond .ne 12, .iload 4, .jsr 0]
def b2181_12 : List Instr := [.iload 5, .invokeinterface 2182 1, .ifCond .eq 13, .sipush 0, .goto 15]
def b2181_13 : List Instr := [.iload 6, .ifCond .eq 14, .sipush 100000, .iload 5, .iadd, .goto 15]
def b2181_14 : List Instr := [.iload 5, .ineg, .goto_w 15]
def b2181_15 : List Instr := [.istore 8, .sipush 0, .istore 9, .goto_w 16]
def b2181_16 : List Instr := [.iload 5, .invokeinterface 2182 1, .ifCond .eq 18, .iload 4, .aload 0, .getfield 34832, .if_icmp .ge 18, .aload 0, .getfield 34827, .iload 4, .iaload, .invokeinterface 2182 1, .ifCond .eq 18, .iload 9, .sipush 5, .if_icmp .ne 17, .iload 4, .jsr 0]
def b2181_17 : List Instr := [.sipush 10, .iload 8, .imul, .aload 0, .getfield 34827, .iload 4, .iaload, .iadd, .sipush 48, .isub, .istore 8, .iinc 9 1, .iinc 4 1, .goto 16]
def b2181_18 : List Instr := [.iload 9, .ifCond .le 19, .iload 4, .goto 20]
def b2181_19 : List Instr := [.iload 4, .sipush 1, .iadd, .goto_w 20]
def b2181_20 : List Instr := [.istore 4, .aload 0, .getfield 34867, .iload 1, .iload 8, .iastore, .iinc 1 1, .iload 6, .ifCond .eq 21, .iload 3, .sipush 1, .iadd, .goto 24]
def b2181_21 : List Instr := [.iload 5, .invokeinterface 2183 1, .ifCond .eq 22, .iload 3, .sipush 1, .isub, .goto 24]
def b2181_22 : List Instr := [.iload 5, .invokeinterface 2184 1, .ifCond .eq 23, .sipush 0, .goto 24]
def b2181_23 : List Instr := [.iload 3, .goto_w 24]
def b2181_24 : List Instr := [.istore 3, .iload 5, .invokeinterface 2184 1, .ifCond .eq 25, .iinc 2 1, .aload 0, .getfield 34875, .iload 2, .iload 1, .iastore, .goto_w 25]
def b2181_25 : List Instr := [.goto 1]
def b2181_26 : List Instr := [.aload 0, .iload 2, .putfield 35088, .iload 2, .ifCond .eq 27, .aload 0, .getfield 34875, .iload 2, .iaload, .iload 1, .if_icmp .eq 28, .goto_w 27]
def b2181_27 : List Instr := [.aload 0, .getfield 34832, .goto 29]
def b2181_28 : List Instr := [.sipush (-1), .goto_w 29]
def b2181_29 : List Instr := [.jsr 0]
/-- TimberHouseModel$Prices.fault()I -/
def m2181 : pm_M := (fun j => [b2181_0, b2181_1, b2181_2, b2181_3, b2181_4, b2181_5, b2181_6, b2181_7, b2181_8, b2181_9, b2181_10, b2181_11, b2181_12, b2181_13, b2181_14, b2181_15, b2181_16, b2181_17, b2181_18, b2181_19, b2181_20, b2181_21, b2181_22, b2181_23, b2181_24, b2181_25, b2181_26, b2181_27, b2181_28, b2181_29].getD j [], fun _ => [], 34, 10)
def b2182_0 : List Instr := [.iload 0, .sipush 48, .if_icmp .lt 1, .iload 0, .sipush 57, .if_icmp .gt 1, .sipush 1, .goto 2]
def b2182_1 : List Instr := [.sipush 0, .goto_w 2]
def b2182_2 : List Instr := [.jsr 2]
/-- TimberHouseModel$Prices.isDigit(I)Z -/
def m2182 : pm_M := (fun j => [b2182_0, b2182_1, b2182_2].getD j [], fun _ => [], 0, 1)
def b2183_0 : List Instr := [.iload 0, .sipush 43, .if_icmp .eq 1, .iload 0, .sipush 45, .if_icmp .eq 1, .iload 0, .sipush 42, .if_icmp .eq 1, .iload 0, .sipush 47, .if_icmp .eq 1, .iload 0, .sipush 60, .if_icmp .eq 1, .iload 0, .sipush 62, .if_icmp .ne 2, .goto_w 1]
def b2183_1 : List Instr := [.sipush 1, .goto 3]
def b2183_2 : List Instr := [.sipush 0, .goto_w 3]
def b2183_3 : List Instr := [.jsr 2]
/-- TimberHouseModel$Prices.isTwo(I)Z -/
def m2183 : pm_M := (fun j => [b2183_0, b2183_1, b2183_2, b2183_3].getD j [], fun _ => [], 0, 1)
def b2184_0 : List Instr := [.iload 0, .sipush 59, .if_icmp .eq 1, .iload 0, .sipush 37, .if_icmp .eq 1, .iload 0, .sipush 61, .if_icmp .ne 2, .goto_w 1]
def b2184_1 : List Instr := [.sipush 1, .goto 3]
def b2184_2 : List Instr := [.sipush 0, .goto_w 3]
def b2184_3 : List Instr := [.jsr 2]
/-- TimberHouseModel$Prices.isEnd(I)Z -/
def m2184 : pm_M := (fun j => [b2184_0, b2184_1, b2184_2, b2184_3].getD j [], fun _ => [], 0, 1)
def b2185_0 : List Instr := [.aload 0, .aload 0, .iload 1, .iload 2, .iload 3, .invokeinterface 2186 4, .putfield 34816, .aload 0, .getfield 34816, .ifCond .ne 1, .aload 0, .iload 1, .sipush 97, .isub, .iload 2, .iload 3, .invokeinterface 2188 4, .goto_w 1]
def b2185_1 : List Instr := [.return_]
/-- TimberHouseModel$Prices.fact(III)V -/
def m2185 : pm_M := (fun j => [b2185_0, b2185_1].getD j [], fun _ => [], 34, 4)
def b2186_0 : List Instr := [.iload 1, .invokeinterface 2187 1, .ifCond .eq 1, .sipush 1, .goto 3]
def b2186_1 : List Instr := [.iload 3, .i2l, .bipush 1, .bipush 10000, .invokeinterface 2178 3, .ifCond .eq 2, .iload 2, .i2l, .bipush (-1000000), .bipush 1000000, .invokeinterface 2178 3, .ifCond .eq 2, .sipush 0, .goto 3]
def b2186_2 : List Instr := [.sipush 2, .goto_w 3]
def b2186_3 : List Instr := [.jsr 0]
/-- TimberHouseModel$Prices.factFault(III)I -/
def m2186 : pm_M := (fun j => [b2186_0, b2186_1, b2186_2, b2186_3].getD j [], fun _ => [], 34, 4)
def b2187_0 : List Instr := [.iload 0, .sipush 97, .if_icmp .lt 1, .iload 0, .sipush 122, .if_icmp .gt 1, .iload 0, .sipush 114, .if_icmp .ne 2, .goto_w 1]
def b2187_1 : List Instr := [.sipush 1, .goto 3]
def b2187_2 : List Instr := [.sipush 0, .goto_w 3]
def b2187_3 : List Instr := [.jsr 2]
/-- TimberHouseModel$Prices.noFact(I)Z -/
def m2187 : pm_M := (fun j => [b2187_0, b2187_1, b2187_2, b2187_3].getD j [], fun _ => [], 0, 1)
def b2188_0 : List Instr := [.aload 0, .iload 2, .i2l, .iload 3, .i2l, .invokeinterface 2189 3, .istore 4, .aload 0, .getfield 34899, .iload 1, .iload 4, .bastore, .aload 0, .getfield 34883, .iload 1, .aload 0, .getfield 34985, .lastore, .aload 0, .getfield 34891, .iload 1, .aload 0, .getfield 34993, .lastore, .return_]
/-- TimberHouseModel$Prices.setFact(III)V -/
def m2188 : pm_M := (fun j => [b2188_0].getD j [], fun _ => [], 34, 5)
def b2189_0 : List Instr := [.lload 1, .invokeinterface 2190 1, .lstore 5, .lload 3, .invokeinterface 2190 1, .lstore 7, .goto_w 1]
def b2189_1 : List Instr := [.lload 7, .bipush 0, .lcmp, .ifCond .eq 2, .lload 5, .lload 7, .lrem, .lstore 9, .lload 7, .lstore 5, .lload 9, .lstore 7, .goto 1]
def b2189_2 : List Instr := [.aload 0, .lload 3, .bipush 0, .lcmp, .ifCond .ge 3, .lload 1, .lload 5, .ldiv, .lneg, .goto 4]
def b2189_3 : List Instr := [.lload 1, .lload 5, .ldiv, .goto_w 4]
def b2189_4 : List Instr := [.putfield 34985, .aload 0, .lload 3, .invokeinterface 2190 1, .lload 5, .ldiv, .putfield 34993, .aload 0, .getfield 34985, .invokeinterface 2190 1, .bipush 1000000000, .lcmp, .ifCond .gt 5, .aload 0, .getfield 34993, .bipush 1000000000, .lcmp, .ifCond .gt 5, .sipush 1, .goto 6]
def b2189_5 : List Instr := [.sipush 0, .goto_w 6]
def b2189_6 : List Instr := [.jsr 2]
/-- TimberHouseModel$Prices.make(JJ)Z -/
def m2189 : pm_M := (fun j => [b2189_0, b2189_1, b2189_2, b2189_3, b2189_4, b2189_5, b2189_6].getD j [], fun _ => [], 34, 11)
def b2190_0 : List Instr := [.lload 0, .bipush 0, .lcmp, .ifCond .ge 1, .lload 0, .lneg, .goto 2]
def b2190_1 : List Instr := [.lload 0, .goto_w 2]
def b2190_2 : List Instr := [.lreturn]
/-- TimberHouseModel$Prices.size(J)J -/
def m2190 : pm_M := (fun j => [b2190_0, b2190_1, b2190_2].getD j [], fun _ => [], 0, 2)
def b2191_0 : List Instr := [.aload 0, .iload 1, .invokeinterface 2187 1, .ifCond .eq 1, .sipush 1, .goto 2]
def b2191_1 : List Instr := [.sipush 0, .goto_w 2]
def b2191_2 : List Instr := [.putfield 34816, .aload 0, .getfield 34816, .ifCond .le 3, .sipush 0, .jsr 2]
def b2191_3 : List Instr := [.aload 0, .getfield 34899, .iload 1, .sipush 97, .isub, .baload, .istore 2, .aload 0, .getfield 34899, .iload 1, .sipush 97, .isub, .sipush 0, .bastore, .iload 2, .jsr 2]
/-- TimberHouseModel$Prices.forget(I)Z -/
def m2191 : pm_M := (fun j => [b2191_0, b2191_1, b2191_2, b2191_3].getD j [], fun _ => [], 34, 3)
def b2192_0 : List Instr := [.aload 0, .sipush 0, .putfield 34816, .aload 0, .invokeinterface 2193 1, .sipush 0, .istore 1, .sipush 0, .istore 2, .goto_w 1]
def b2192_1 : List Instr := [.iload 2, .aload 0, .getfield 34856, .if_icmp .ge 4, .aload 0, .getfield 34971, .iload 2, .iaload, .ifCond .le 2, .iload 1, .sipush 1, .iadd, .goto 3]
def b2192_2 : List Instr := [.iload 1, .goto_w 3]
def b2192_3 : List Instr := [.istore 1, .iinc 2 1, .goto 1]
def b2192_4 : List Instr := [.iload 1, .jsr 0]
/-- TimberHouseModel$Prices.run()I -/
def m2192 : pm_M := (fun j => [b2192_0, b2192_1, b2192_2, b2192_3, b2192_4].getD j [], fun _ => [], 34, 3)
def b2193_0 : List Instr := [.aload 0, .bipush 0, .putfield 34929, .aload 0, .bipush 1, .putfield 34937, .sipush 0, .istore 1, .goto_w 1]
def b2193_1 : List Instr := [.iload 1, .aload 0, .getfield 34856, .if_icmp .ge 10, .aload 0, .sipush 0, .putfield 34920, .aload 0, .getfield 34971, .iload 1, .sipush 0, .iastore, .aload 0, .getfield 34979, .iload 1, .sipush (-1), .iastore, .aload 0, .getfield 34851, .iload 1, .iaload, .istore 2, .goto_w 2]
def b2193_2 : List Instr := [.iload 2, .aload 0, .getfield 34851, .iload 1, .sipush 1, .iadd, .iaload, .if_icmp .ge 5, .aload 0, .getfield 34971, .iload 1, .iaload, .ifCond .ne 5, .aload 0, .getfield 34971, .iload 1, .aload 0, .aload 0, .getfield 34843, .iload 2, .iaload, .invokeinterface 2194 2, .iastore, .aload 0, .getfield 34979, .iload 1, .aload 0, .getfield 34971, .iload 1, .iaload, .ifCond .le 3, .iload 2, .aload 0, .getfield 34851, .iload 1, .iaload, .isub, .goto 4]
def b2193_3 : List Instr := [.sipush (-1), .goto_w 4]
def b2193_4 : List Instr := [.iastore, .iinc 2 1, .goto 2]
def b2193_5 : List Instr := [.aload 0, .getfield 34955, .iload 1, .aload 0, .getfield 34971, .iload 1, .iaload, .ifCond .le 6, .bipush 0, .goto 7]
def b2193_6 : List Instr := [.aload 0, .getfield 34985, .goto_w 7]
def b2193_7 : List Instr := [.lastore, .aload 0, .getfield 34963, .iload 1, .aload 0, .getfield 34971, .iload 1, .iaload, .ifCond .le 8, .bipush 1, .goto 9]
def b2193_8 : List Instr := [.aload 0, .getfield 34993, .goto_w 9]
def b2193_9 : List Instr := [.lastore, .iinc 1 1, .goto 1]
def b2193_10 : List Instr := [.return_]
/-- TimberHouseModel$Prices.reckon()V -/
def m2193 : pm_M := (fun j => [b2193_0, b2193_1, b2193_2, b2193_3, b2193_4, b2193_5, b2193_6, b2193_7, b2193_8, b2193_9, b2193_10].getD j [], fun _ => [], 34, 3)
def b2194_0 : List Instr := [.iload 1, .sipush 100000, .if_icmp .lt 2, .iload 1, .sipush 100000, .isub, .sipush 97, .isub, .istore 2, .aload 0, .getfield 34899, .iload 2, .baload, .ifCond .ne 1, .sipush 1, .jsr 0]
def b2194_1 : List Instr := [.aload 0, .aload 0, .getfield 34883, .iload 2, .laload, .putfield 34985, .aload 0, .aload 0, .getfield 34891, .iload 2, .laload, .putfield 34993, .aload 0, .invokeinterface 2195 1, .sipush 0, .jsr 0]
def b2194_2 : List Instr := [.iload 1, .ifCond .lt 3, .aload 0, .iload 1, .i2l, .putfield 34985, .aload 0, .bipush 1, .putfield 34993, .aload 0, .invokeinterface 2195 1, .sipush 0, .jsr 0]
def b2194_3 : List Instr := [.iload 1, .ineg, .invokeinterface 2183 1, .ifCond .eq 4, .aload 0, .iload 1, .ineg, .invokeinterface 2196 2, .goto 6]
def b2194_4 : List Instr := [.iload 1, .ineg, .sipush 114, .if_icmp .ne 5, .aload 0, .invokeinterface 2198 1, .goto 6]
def b2194_5 : List Instr := [.aload 0, .iload 1, .ineg, .invokeinterface 2200 2, .goto_w 6]
def b2194_6 : List Instr := [.jsr 0]
/-- TimberHouseModel$Prices.step(I)I -/
def m2194 : pm_M := (fun j => [b2194_0, b2194_1, b2194_2, b2194_3, b2194_4, b2194_5, b2194_6].getD j [], fun _ => [], 34, 3)
def b2195_0 : List Instr := [.aload 0, .getfield 34907, .aload 0, .getfield 34920, .aload 0, .getfield 34985, .lastore, .aload 0, .getfield 34915, .aload 0, .getfield 34920, .aload 0, .getfield 34993, .lastore, .aload 0, .dup, .getfield 34920, .sipush 1, .iadd, .putfield 34920, .return_]
/-- TimberHouseModel$Prices.lay()V -/
def m2195 : pm_M := (fun j => [b2195_0].getD j [], fun _ => [], 34, 1)
def b2196_0 : List Instr := [.aload 0, .getfield 34907, .aload 0, .getfield 34920, .sipush 2, .isub, .laload, .lstore 2, .aload 0, .getfield 34915, .aload 0, .getfield 34920, .sipush 2, .isub, .laload, .lstore 4, .aload 0, .getfield 34907, .aload 0, .getfield 34920, .sipush 1, .isub, .laload, .lstore 6, .aload 0, .getfield 34915, .aload 0, .getfield 34920, .sipush 1, .isub, .laload, .lstore 8, .sipush 1, .istore 10, .iload 1, .sipush 47, .if_icmp .ne 1, .lload 6, .bipush 0, .lcmp, .ifCond .ne 1, .sipush 2, .jsr 0]
def b2196_1 : List Instr := [.iload 1, .sipush 43, .if_icmp .eq 2, .iload 1, .sipush 45, .if_icmp .ne 5, .goto_w 2]
def b2196_2 : List Instr := [.aload 0, .lload 2, .lload 4, .iload 1, .sipush 43, .if_icmp .ne 3, .lload 6, .goto 4]
def b2196_3 : List Instr := [.lload 6, .lneg, .goto_w 4]
def b2196_4 : List Instr := [.lload 8, .invokeinterface 2197 5, .istore 10, .goto 16]
def b2196_5 : List Instr := [.iload 1, .sipush 42, .if_icmp .eq 6, .iload 1, .sipush 47, .if_icmp .ne 9, .goto_w 6]
def b2196_6 : List Instr := [.iload 1, .sipush 42, .if_icmp .ne 7, .aload 0, .lload 2, .lload 6, .lmul, .lload 4, .lload 8, .lmul, .invokeinterface 2189 3, .goto 8]
def b2196_7 : List Instr := [.aload 0, .lload 2, .lload 8, .lmul, .lload 4, .lload 6, .lmul, .invokeinterface 2189 3, .goto_w 8]
def b2196_8 : List Instr := [.istore 10, .goto 16]
def b2196_9 : List Instr := [.iload 1, .sipush 60, .if_icmp .ne 11, .lload 2, .lload 8, .lmul, .lload 6, .lload 4, .lmul, .lcmp, .ifCond .gt 10, .sipush 1, .goto 13]
def b2196_10 : List Instr := [.sipush 0, .goto 13]
def b2196_11 : List Instr := [.lload 2, .lload 8, .lmul, .lload 6, .lload 4, .lmul, .lcmp, .ifCond .lt 12, .sipush 1, .goto 13]
def b2196_12 : List Instr := [.sipush 0, .goto_w 13]
def b2196_13 : List Instr := [.istore 11, .iload 11, .ifCond .eq 14, .aload 0, .lload 2, .lload 4, .invokeinterface 2189 3, .goto 15]
def b2196_14 : List Instr := [.aload 0, .lload 6, .lload 8, .invokeinterface 2189 3, .goto_w 15]
def b2196_15 : List Instr := [.istore 10, .goto_w 16]
def b2196_16 : List Instr := [.iload 10, .ifCond .ne 17, .sipush 3, .jsr 0]
def b2196_17 : List Instr := [.aload 0, .aload 0, .getfield 34920, .sipush 2, .isub, .putfield 34920, .aload 0, .invokeinterface 2195 1, .sipush 0, .jsr 0]
/-- TimberHouseModel$Prices.two(I)I -/
def m2196 : pm_M := (fun j => [b2196_0, b2196_1, b2196_2, b2196_3, b2196_4, b2196_5, b2196_6, b2196_7, b2196_8, b2196_9, b2196_10, b2196_11, b2196_12, b2196_13, b2196_14, b2196_15, b2196_16, b2196_17].getD j [], fun _ => [], 34, 12)
def b2197_0 : List Instr := [.aload 0, .lload 1, .lload 7, .lmul, .lload 5, .lload 3, .lmul, .ladd, .lload 3, .lload 7, .lmul, .invokeinterface 2189 3, .jsr 2]
/-- TimberHouseModel$Prices.add(JJJJ)Z -/
def m2197 : pm_M := (fun j => [b2197_0].getD j [], fun _ => [], 34, 9)
def b2198_0 : List Instr := [.aload 0, .dup, .getfield 34920, .sipush 1, .isub, .putfield 34920, .bipush 200, .aload 0, .getfield 34907, .aload 0, .getfield 34920, .laload, .lmul, .aload 0, .getfield 34915, .aload 0, .getfield 34920, .laload, .ladd, .bipush 2, .aload 0, .getfield 34915, .aload 0, .getfield 34920, .laload, .lmul, .invokeinterface 2199 2, .lstore 1, .aload 0, .lload 1, .bipush 100, .invokeinterface 2189 3, .ifCond .ne 1, .sipush 3, .jsr 0]
def b2198_1 : List Instr := [.aload 0, .invokeinterface 2195 1, .sipush 0, .jsr 0]
/-- TimberHouseModel$Prices.round()I -/
def m2198 : pm_M := (fun j => [b2198_0, b2198_1].getD j [], fun _ => [], 34, 3)
def b2199_0 : List Instr := [.lload 0, .lload 2, .ldiv, .lstore 4, .lload 0, .lload 2, .lrem, .bipush 0, .lcmp, .ifCond .ge 1, .lload 4, .bipush 1, .lsub, .goto 2]
def b2199_1 : List Instr := [.lload 4, .goto_w 2]
def b2199_2 : List Instr := [.lreturn]
/-- TimberHouseModel$Prices.floor(JJ)J -/
def m2199 : pm_M := (fun j => [b2199_0, b2199_1, b2199_2].getD j [], fun _ => [], 0, 6)
def b2200_0 : List Instr := [.aload 0, .getfield 34907, .sipush 0, .laload, .lstore 2, .aload 0, .getfield 34915, .sipush 0, .laload, .lstore 4, .aload 0, .lload 2, .lload 4, .invokeinterface 2189 3, .istore 6, .iload 1, .sipush 37, .if_icmp .ne 3, .aload 0, .lload 2, .bipush 100, .lload 4, .lmul, .invokeinterface 2189 3, .ifCond .eq 1, .aload 0, .aload 0, .getfield 34985, .aload 0, .getfield 34929, .lmul, .aload 0, .getfield 34993, .aload 0, .getfield 34937, .lmul, .invokeinterface 2189 3, .ifCond .eq 1, .sipush 1, .goto 2]
def b2200_1 : List Instr := [.sipush 0, .goto_w 2]
def b2200_2 : List Instr := [.istore 6, .goto 4]
def b2200_3 : List Instr := [.iload 1, .sipush 61, .if_icmp .ne 4, .aload 0, .lload 2, .lload 4, .aload 0, .getfield 34929, .lneg, .aload 0, .getfield 34937, .invokeinterface 2197 5, .istore 6, .goto_w 4]
def b2200_4 : List Instr := [.iload 6, .ifCond .ne 5, .sipush 3, .jsr 0]
def b2200_5 : List Instr := [.aload 0, .getfield 34985, .lstore 7, .aload 0, .getfield 34993, .lstore 9, .aload 0, .aload 0, .getfield 34929, .aload 0, .getfield 34937, .lload 7, .lload 9, .invokeinterface 2197 5, .ifCond .ne 6, .sipush 3, .jsr 0]
def b2200_6 : List Instr := [.aload 0, .aload 0, .getfield 34985, .putfield 34929, .aload 0, .aload 0, .getfield 34993, .putfield 34937, .aload 0, .lload 7, .putfield 34985, .aload 0, .lload 9, .putfield 34993, .sipush 0, .jsr 0]
/-- TimberHouseModel$Prices.end(I)I -/
def m2200 : pm_M := (fun j => [b2200_0, b2200_1, b2200_2, b2200_3, b2200_4, b2200_5, b2200_6].getD j [], fun _ => [], 34, 11)
def b2201_0 : List Instr := [.aload 0, .sipush 0, .putfield 34816, .aload 0, .invokeinterface 2202 1, .lreturn]
/-- TimberHouseModel$Prices.cents()J -/
def m2201 : pm_M := (fun j => [b2201_0].getD j [], fun _ => [], 34, 1)
def b2202_0 : List Instr := [.aload 0, .invokeinterface 2193 1, .bipush 200, .aload 0, .getfield 34929, .lmul, .aload 0, .getfield 34937, .ladd, .bipush 2, .aload 0, .getfield 34937, .lmul, .invokeinterface 2199 2, .lreturn]
/-- TimberHouseModel$Prices.centsNow()J -/
def m2202 : pm_M := (fun j => [b2202_0].getD j [], fun _ => [], 34, 1)
def b2203_0 : List Instr := [.aload 0, .iload 1, .i2l, .bipush 0, .aload 0, .getfield 34856, .i2l, .bipush 1, .lsub, .invokeinterface 2178 3, .ifCond .eq 1, .iload 2, .i2l, .bipush 0, .bipush 3, .invokeinterface 2178 3, .ifCond .eq 1, .sipush 0, .goto 2]
def b2203_1 : List Instr := [.sipush 1, .goto_w 2]
def b2203_2 : List Instr := [.putfield 34816, .aload 0, .getfield 34816, .ifCond .le 3, .bipush 0, .lreturn]
def b2203_3 : List Instr := [.aload 0, .invokeinterface 2193 1, .iload 2, .ifCond .ne 4, .aload 0, .getfield 34955, .iload 1, .laload, .goto 7]
def b2203_4 : List Instr := [.iload 2, .sipush 1, .if_icmp .ne 5, .aload 0, .getfield 34963, .iload 1, .laload, .goto 7]
def b2203_5 : List Instr := [.iload 2, .sipush 2, .if_icmp .ne 6, .aload 0, .getfield 34971, .iload 1, .iaload, .i2l, .goto 7]
def b2203_6 : List Instr := [.aload 0, .getfield 34979, .iload 1, .iaload, .i2l, .goto_w 7]
def b2203_7 : List Instr := [.lreturn]
/-- TimberHouseModel$Prices.line(II)J -/
def m2203 : pm_M := (fun j => [b2203_0, b2203_1, b2203_2, b2203_3, b2203_4, b2203_5, b2203_6, b2203_7].getD j [], fun _ => [], 34, 3)
def b2204_0 : List Instr := [.aload 0, .aload 0, .iload 1, .iload 2, .iload 3, .invokeinterface 2186 4, .putfield 34816, .aload 0, .getfield 34816, .ifCond .le 1, .bipush 0, .lreturn]
def b2204_1 : List Instr := [.iload 1, .sipush 97, .isub, .istore 4, .aload 0, .invokeinterface 2202 1, .lstore 5, .aload 0, .getfield 34899, .iload 4, .baload, .istore 7, .aload 0, .getfield 34883, .iload 4, .laload, .lstore 8, .aload 0, .getfield 34891, .iload 4, .laload, .lstore 10, .aload 0, .iload 4, .iload 2, .iload 3, .invokeinterface 2188 4, .aload 0, .invokeinterface 2202 1, .lstore 12, .aload 0, .getfield 34899, .iload 4, .iload 7, .bastore, .aload 0, .getfield 34883, .iload 4, .lload 8, .lastore, .aload 0, .getfield 34891, .iload 4, .lload 10, .lastore, .lload 12, .lload 5, .lsub, .lreturn]
/-- TimberHouseModel$Prices.changed(III)J -/
def m2204 : pm_M := (fun j => [b2204_0, b2204_1].getD j [], fun _ => [], 34, 14)
def b2205_0 : List Instr := [.iload 1, .i2l, .bipush 0, .bipush 10000, .invokeinterface 2178 3, .ifCond .eq 2, .aload 0, .getfield 35000, .ifCond .eq 1, .iload 1, .aload 0, .getfield 35011, .aload 0, .getfield 35000, .sipush 1, .isub, .iaload, .if_icmp .le 2, .goto_w 1]
def b2205_1 : List Instr := [.iload 2, .i2l, .bipush 1, .bipush 1000, .invokeinterface 2178 3, .ifCond .eq 2, .iload 3, .i2l, .bipush 1, .bipush 1000, .invokeinterface 2178 3, .ifCond .eq 2, .sipush 1, .goto 3]
def b2205_2 : List Instr := [.sipush 0, .goto_w 3]
def b2205_3 : List Instr := [.istore 4, .aload 0, .iload 4, .ifCond .ne 4, .sipush 1, .goto 6]
def b2205_4 : List Instr := [.aload 0, .getfield 35000, .sipush 8, .if_icmp .ne 5, .sipush 2, .goto 6]
def b2205_5 : List Instr := [.sipush 0, .goto_w 6]
def b2205_6 : List Instr := [.putfield 34816, .aload 0, .getfield 34816, .ifCond .le 7, .sipush 0, .jsr 0]
def b2205_7 : List Instr := [.aload 0, .getfield 35011, .aload 0, .getfield 35000, .iload 1, .iastore, .aload 0, .getfield 35019, .aload 0, .getfield 35000, .iload 2, .iastore, .aload 0, .getfield 35027, .aload 0, .getfield 35000, .iload 3, .iastore, .aload 0, .dup, .getfield 35000, .sipush 1, .iadd, .putfield 35000, .aload 0, .getfield 35000, .jsr 0]
/-- TimberHouseModel$Prices.currency(III)I -/
def m2205 : pm_M := (fun j => [b2205_0, b2205_1, b2205_2, b2205_3, b2205_4, b2205_5, b2205_6, b2205_7].getD j [], fun _ => [], 34, 5)
def b2206_0 : List Instr := [.aload 0, .iload 1, .i2l, .bipush 0, .bipush 10000, .invokeinterface 2178 3, .ifCond .eq 1, .sipush 0, .goto 2]
def b2206_1 : List Instr := [.sipush 1, .goto_w 2]
def b2206_2 : List Instr := [.putfield 34816, .aload 0, .getfield 34816, .ifCond .le 3, .bipush 0, .goto 4]
def b2206_3 : List Instr := [.aload 0, .aload 0, .invokeinterface 2202 1, .iload 1, .invokeinterface 2207 3, .goto_w 4]
def b2206_4 : List Instr := [.lreturn]
/-- TimberHouseModel$Prices.centsAt(I)J -/
def m2206 : pm_M := (fun j => [b2206_0, b2206_1, b2206_2, b2206_3, b2206_4].getD j [], fun _ => [], 34, 2)
def b2207_0 : List Instr := [.lload 1, .lstore 4, .sipush 0, .istore 6, .goto_w 1]
def b2207_1 : List Instr := [.iload 6, .aload 0, .getfield 35000, .if_icmp .ge 4, .aload 0, .getfield 35011, .iload 6, .iaload, .iload 3, .if_icmp .gt 2, .lload 1, .aload 0, .getfield 35019, .iload 6, .iaload, .i2l, .lmul, .aload 0, .getfield 35027, .iload 6, .iaload, .i2l, .invokeinterface 2199 2, .goto 3]
def b2207_2 : List Instr := [.lload 4, .goto_w 3]
def b2207_3 : List Instr := [.lstore 4, .iinc 6 1, .goto 1]
def b2207_4 : List Instr := [.lload 4, .lreturn]
/-- TimberHouseModel$Prices.at(JI)J -/
def m2207 : pm_M := (fun j => [b2207_0, b2207_1, b2207_2, b2207_3, b2207_4].getD j [], fun _ => [], 34, 7)
def b2208_0 : List Instr := [.aload 0, .iload 1, .i2l, .bipush 0, .bipush 10000, .invokeinterface 2178 3, .ifCond .eq 1, .sipush 0, .goto 2]
def b2208_1 : List Instr := [.sipush 1, .goto_w 2]
def b2208_2 : List Instr := [.putfield 34816, .aload 0, .getfield 34816, .ifCond .ne 4, .aload 0, .getfield 35032, .sipush 8, .if_icmp .eq 3, .aload 0, .invokeinterface 2192 1, .ifCond .le 4, .goto_w 3]
def b2208_3 : List Instr := [.aload 0, .sipush 2, .putfield 34816, .goto_w 4]
def b2208_4 : List Instr := [.aload 0, .getfield 34816, .ifCond .le 5, .sipush 0, .jsr 0]
def b2208_5 : List Instr := [.aload 0, .getfield 35043, .aload 0, .getfield 35032, .aload 0, .invokeinterface 2202 1, .lastore, .aload 0, .getfield 35051, .aload 0, .getfield 35032, .iload 1, .iastore, .aload 0, .dup, .getfield 35032, .sipush 1, .iadd, .putfield 35032, .aload 0, .getfield 35032, .sipush 1, .isub, .jsr 0]
/-- TimberHouseModel$Prices.offer(I)I -/
def m2208 : pm_M := (fun j => [b2208_0, b2208_1, b2208_2, b2208_3, b2208_4, b2208_5].getD j [], fun _ => [], 34, 2)
def b2209_0 : List Instr := [.aload 0, .aload 0, .iload 1, .invokeinterface 2210 2, .ifCond .eq 1, .sipush 1, .goto 4]
def b2209_1 : List Instr := [.iload 2, .i2l, .bipush 0, .bipush 10000, .invokeinterface 2178 3, .ifCond .ne 2, .sipush 2, .goto 4]
def b2209_2 : List Instr := [.iload 2, .aload 0, .getfield 35051, .iload 1, .iaload, .if_icmp .le 3, .sipush 3, .goto 4]
def b2209_3 : List Instr := [.sipush 0, .goto_w 4]
def b2209_4 : List Instr := [.putfield 34816, .aload 0, .getfield 34816, .ifCond .le 5, .bipush 0, .goto 6]
def b2209_5 : List Instr := [.aload 0, .getfield 35043, .iload 1, .laload, .goto_w 6]
def b2209_6 : List Instr := [.lreturn]
/-- TimberHouseModel$Prices.offered(II)J -/
def m2209 : pm_M := (fun j => [b2209_0, b2209_1, b2209_2, b2209_3, b2209_4, b2209_5, b2209_6].getD j [], fun _ => [], 34, 3)
def b2210_0 : List Instr := [.iload 1, .ifCond .lt 1, .iload 1, .aload 0, .getfield 35032, .if_icmp .lt 2, .goto_w 1]
def b2210_1 : List Instr := [.sipush 1, .goto 3]
def b2210_2 : List Instr := [.sipush 0, .goto_w 3]
def b2210_3 : List Instr := [.jsr 2]
/-- TimberHouseModel$Prices.noOffer(I)Z -/
def m2210 : pm_M := (fun j => [b2210_0, b2210_1, b2210_2, b2210_3].getD j [], fun _ => [], 34, 2)
def b2211_0 : List Instr := [.aload 0, .aload 0, .iload 1, .invokeinterface 2210 2, .ifCond .ne 1, .aload 0, .iload 2, .invokeinterface 2210 2, .ifCond .eq 2, .goto_w 1]
def b2211_1 : List Instr := [.sipush 1, .goto 3]
def b2211_2 : List Instr := [.sipush 0, .goto_w 3]
def b2211_3 : List Instr := [.putfield 34816, .aload 0, .getfield 34816, .ifCond .le 4, .bipush 0, .goto 5]
def b2211_4 : List Instr := [.aload 0, .getfield 35043, .iload 1, .laload, .aload 0, .getfield 35043, .iload 2, .laload, .lsub, .goto_w 5]
def b2211_5 : List Instr := [.lreturn]
/-- TimberHouseModel$Prices.differs(II)J -/
def m2211 : pm_M := (fun j => [b2211_0, b2211_1, b2211_2, b2211_3, b2211_4, b2211_5].getD j [], fun _ => [], 34, 3)
def b2212_0 : List Instr := [.aload 0, .aload 0, .iload 1, .invokeinterface 2210 2, .ifCond .eq 1, .sipush 1, .goto 3]
def b2212_1 : List Instr := [.iload 2, .i2l, .bipush 0, .bipush 10000, .invokeinterface 2178 3, .ifCond .ne 2, .sipush 2, .goto 3]
def b2212_2 : List Instr := [.sipush 0, .goto_w 3]
def b2212_3 : List Instr := [.putfield 34816, .aload 0, .getfield 34816, .ifCond .le 4, .sipush 0, .jsr 0]
def b2212_4 : List Instr := [.aload 0, .aload 0, .getfield 35043, .iload 1, .laload, .iload 2, .invokeinterface 2207 3, .lstore 3, .aload 0, .aload 0, .getfield 35056, .sipush 8, .if_icmp .eq 5, .iload 2, .aload 0, .getfield 35051, .iload 1, .iaload, .if_icmp .gt 5, .lload 3, .bipush 0, .lcmp, .ifCond .ge 6, .goto_w 5]
def b2212_5 : List Instr := [.sipush 3, .goto 7]
def b2212_6 : List Instr := [.sipush 0, .goto_w 7]
def b2212_7 : List Instr := [.putfield 34816, .aload 0, .getfield 34816, .ifCond .le 8, .sipush 0, .jsr 0]
def b2212_8 : List Instr := [.aload 0, .getfield 35067, .aload 0, .getfield 35056, .lload 3, .lastore, .aload 0, .dup, .getfield 35056, .sipush 1, .iadd, .putfield 35056, .aload 0, .getfield 35056, .sipush 1, .isub, .jsr 0]
/-- TimberHouseModel$Prices.invoice(II)I -/
def m2212 : pm_M := (fun j => [b2212_0, b2212_1, b2212_2, b2212_3, b2212_4, b2212_5, b2212_6, b2212_7, b2212_8].getD j [], fun _ => [], 34, 5)
def b2213_0 : List Instr := [.aload 0, .aload 0, .iload 1, .invokeinterface 2214 2, .ifCond .eq 1, .sipush 1, .goto 2]
def b2213_1 : List Instr := [.sipush 0, .goto_w 2]
def b2213_2 : List Instr := [.putfield 34816, .aload 0, .getfield 34816, .ifCond .le 3, .bipush 0, .goto 4]
def b2213_3 : List Instr := [.aload 0, .getfield 35067, .iload 1, .laload, .goto_w 4]
def b2213_4 : List Instr := [.lreturn]
/-- TimberHouseModel$Prices.left(I)J -/
def m2213 : pm_M := (fun j => [b2213_0, b2213_1, b2213_2, b2213_3, b2213_4].getD j [], fun _ => [], 34, 2)
def b2214_0 : List Instr := [.iload 1, .ifCond .lt 1, .iload 1, .aload 0, .getfield 35056, .if_icmp .lt 2, .goto_w 1]
def b2214_1 : List Instr := [.sipush 1, .goto 3]
def b2214_2 : List Instr := [.sipush 0, .goto_w 3]
def b2214_3 : List Instr := [.jsr 2]
/-- TimberHouseModel$Prices.noInvoice(I)Z -/
def m2214 : pm_M := (fun j => [b2214_0, b2214_1, b2214_2, b2214_3].getD j [], fun _ => [], 34, 2)
def b2215_0 : List Instr := [.aload 0, .aload 0, .iload 1, .invokeinterface 2214 2, .ifCond .eq 1, .sipush 1, .goto 3]
def b2215_1 : List Instr := [.iload 2, .ifCond .ge 2, .sipush 2, .goto 3]
def b2215_2 : List Instr := [.sipush 0, .goto_w 3]
def b2215_3 : List Instr := [.putfield 34816, .aload 0, .getfield 34816, .ifCond .gt 4, .iload 2, .i2l, .aload 0, .getfield 35067, .iload 1, .laload, .lcmp, .ifCond .le 5, .goto_w 4]
def b2215_4 : List Instr := [.sipush 0, .jsr 2]
def b2215_5 : List Instr := [.aload 0, .getfield 35067, .iload 1, .aload 0, .getfield 35067, .iload 1, .laload, .iload 2, .i2l, .lsub, .lastore, .sipush 1, .jsr 2]
/-- TimberHouseModel$Prices.refund(II)Z -/
def m2215 : pm_M := (fun j => [b2215_0, b2215_1, b2215_2, b2215_3, b2215_4, b2215_5].getD j [], fun _ => [], 34, 3)
def b2216_0 : List Instr := [.aload 0, .iload 1, .ifCond .lt 1, .iload 1, .sipush 7, .if_icmp .le 2, .goto_w 1]
def b2216_1 : List Instr := [.sipush 1, .goto 4]
def b2216_2 : List Instr := [.iload 2, .i2l, .bipush 0, .bipush 100000, .invokeinterface 2178 3, .ifCond .eq 3, .sipush 0, .goto 4]
def b2216_3 : List Instr := [.sipush 2, .goto_w 4]
def b2216_4 : List Instr := [.putfield 34816, .aload 0, .getfield 34816, .ifCond .le 5, .sipush 0, .jsr 0]
def b2216_5 : List Instr := [.aload 0, .getfield 35075, .iload 1, .dup2, .laload, .bipush 1, .ladd, .lastore, .aload 0, .getfield 35083, .iload 1, .aload 0, .getfield 35083, .iload 1, .laload, .iload 2, .i2l, .ladd, .lastore, .aload 0, .getfield 35083, .iload 1, .laload, .aload 0, .getfield 35075, .iload 1, .laload, .ldiv, .l2i, .jsr 0]
/-- TimberHouseModel$Prices.learn(II)I -/
def m2216 : pm_M := (fun j => [b2216_0, b2216_1, b2216_2, b2216_3, b2216_4, b2216_5].getD j [], fun _ => [], 34, 3)
def b2240_0 : List Instr := [.aload 0, .f2i, .aload 0, .sipush 300, .newarray .int, .putfield 35859, .aload 0, .sipush 300, .newarray .long, .putfield 35867, .aload 0, .sipush 300, .newarray .int, .putfield 35875, .aload 0, .sipush 300, .newarray .int, .putfield 35883, .aload 0, .sipush 300, .newarray .long, .putfield 35891, .aload 0, .sipush 300, .newarray .long, .putfield 35899, .aload 0, .sipush 8, .newarray .int, .putfield 35915, .aload 0, .sipush 2400, .newarray .int, .putfield 35923, .aload 0, .sipush 8, .newarray .int, .putfield 35931, .aload 0, .sipush 16, .newarray .boolean, .putfield 35939, .aload 0, .sipush 60, .newarray .int, .putfield 35955, .aload 0, .sipush 60, .newarray .int, .putfield 35963, .aload 0, .sipush 360, .newarray .int, .putfield 35971, .aload 0, .sipush 360, .newarray .long, .putfield 35979, .aload 0, .sipush 60, .newarray .int, .putfield 35987, .aload 0, .sipush 60, .newarray .boolean, .putfield 35995, .aload 0, .sipush (-1), .putfield 36008, .return_]
/-- TimberHouseModel$Shop.<init>()V -/
def m2240 : pm_M := (fun j => [b2240_0].getD j [], fun _ => [], 35, 1)
def b2241_0 : List Instr := [.aload 0, .iload 1, .i2l, .bipush 0, .bipush 5, .invokeinterface 2242 3, .ifCond .eq 1, .iload 4, .i2l, .bipush 0, .bipush 9, .invokeinterface 2242 3, .ifCond .ne 2, .goto_w 1]
def b2241_1 : List Instr := [.sipush 1, .goto 4]
def b2241_2 : List Instr := [.iload 5, .invokeinterface 2243 1, .ifCond .ne 3, .sipush 2, .goto 4]
def b2241_3 : List Instr := [.sipush 0, .goto_w 4]
def b2241_4 : List Instr := [.putfield 35840, .aload 0, .getfield 35840, .ifCond .gt 5, .aload 0, .iload 1, .lload 2, .invokeinterface 2244 3, .ifCond .lt 6, .goto_w 5]
def b2241_5 : List Instr := [.sipush 0, .jsr 0]
def b2241_6 : List Instr := [.aload 0, .aload 0, .getfield 35848, .sipush 300, .if_icmp .ne 7, .sipush 3, .goto 8]
def b2241_7 : List Instr := [.sipush 0, .goto_w 8]
def b2241_8 : List Instr := [.putfield 35840, .aload 0, .getfield 35840, .ifCond .le 9, .sipush 0, .jsr 0]
def b2241_9 : List Instr := [.aload 0, .getfield 35859, .aload 0, .getfield 35848, .iload 1, .iastore, .aload 0, .getfield 35867, .aload 0, .getfield 35848, .lload 2, .lastore, .aload 0, .getfield 35875, .aload 0, .getfield 35848, .iload 4, .iastore, .aload 0, .getfield 35883, .aload 0, .getfield 35848, .iload 5, .iastore, .aload 0, .getfield 35891, .aload 0, .getfield 35848, .lload 6, .lastore, .aload 0, .getfield 35899, .aload 0, .getfield 35848, .lload 8, .lastore, .aload 0, .dup, .getfield 35848, .sipush 1, .iadd, .putfield 35848, .sipush 1, .jsr 0]
/-- TimberHouseModel$Shop.tell(IJIIJJ)I -/
def m2241 : pm_M := (fun j => [b2241_0, b2241_1, b2241_2, b2241_3, b2241_4, b2241_5, b2241_6, b2241_7, b2241_8, b2241_9].getD j [], fun _ => [], 35, 10)
def b2242_0 : List Instr := [.lload 0, .lload 2, .lcmp, .ifCond .lt 1, .lload 0, .lload 4, .lcmp, .ifCond .gt 1, .sipush 1, .goto 2]
def b2242_1 : List Instr := [.sipush 0, .goto_w 2]
def b2242_2 : List Instr := [.jsr 2]
/-- TimberHouseModel$Shop.isIn(JJJ)Z -/
def m2242 : pm_M := (fun j => [b2242_0, b2242_1, b2242_2].getD j [], fun _ => [], 0, 6)
def b2243_0 : List Instr := [.iload 0, .ifCond .lt 1, .iload 0, .sipush 3, .if_icmp .gt 1, .sipush 1, .goto 2]
def b2243_1 : List Instr := [.sipush 0, .goto_w 2]
def b2243_2 : List Instr := [.jsr 2]
/-- TimberHouseModel$Shop.isKind(I)Z -/
def m2243 : pm_M := (fun j => [b2243_0, b2243_1, b2243_2].getD j [], fun _ => [], 0, 1)
def b2244_0 : List Instr := [.sipush 0, .istore 4, .goto_w 1]
def b2244_1 : List Instr := [.iload 4, .aload 0, .getfield 35848, .if_icmp .ge 3, .aload 0, .getfield 35859, .iload 4, .iaload, .iload 1, .if_icmp .ne 2, .aload 0, .getfield 35867, .iload 4, .laload, .lload 2, .lcmp, .ifCond .ne 2, .iload 4, .jsr 0]
def b2244_2 : List Instr := [.iinc 4 1, .goto 1]
def b2244_3 : List Instr := [.sipush (-1), .jsr 0]
/-- TimberHouseModel$Shop.find(IJ)I -/
def m2244 : pm_M := (fun j => [b2244_0, b2244_1, b2244_2, b2244_3].getD j [], fun _ => [], 35, 5)
def b2245_0 : List Instr := [.aload 0, .getfield 35840, .jsr 0]
/-- TimberHouseModel$Shop.thrown()I -/
def m2245 : pm_M := (fun j => [b2245_0].getD j [], fun _ => [], 35, 1)
def b2246_0 : List Instr := [.aload 0, .iload 1, .i2l, .bipush 0, .bipush 5, .invokeinterface 2242 3, .ifCond .ne 1, .sipush 1, .goto 3]
def b2246_1 : List Instr := [.aload 0, .getfield 35904, .sipush 8, .if_icmp .ne 2, .sipush 2, .goto 3]
def b2246_2 : List Instr := [.sipush 0, .goto_w 3]
def b2246_3 : List Instr := [.putfield 35840, .aload 0, .getfield 35840, .ifCond .le 4, .sipush 0, .jsr 0]
def b2246_4 : List Instr := [.aload 0, .getfield 35915, .aload 0, .getfield 35904, .sipush 0, .iastore, .aload 0, .getfield 35931, .aload 0, .getfield 35904, .sipush (-1), .iastore, .sipush 0, .istore 2, .goto_w 5]
def b2246_5 : List Instr := [.iload 2, .aload 0, .getfield 35848, .if_icmp .ge 9, .aload 0, .getfield 35859, .iload 2, .iaload, .iload 1, .if_icmp .ne 8, .sipush 300, .aload 0, .getfield 35904, .imul, .aload 0, .getfield 35915, .aload 0, .getfield 35904, .iaload, .iadd, .istore 3, .goto_w 6]
def b2246_6 : List Instr := [.iload 3, .sipush 300, .aload 0, .getfield 35904, .imul, .if_icmp .le 7, .aload 0, .getfield 35867, .aload 0, .getfield 35923, .iload 3, .sipush 1, .isub, .iaload, .laload, .aload 0, .getfield 35867, .iload 2, .laload, .lcmp, .ifCond .le 7, .aload 0, .getfield 35923, .iload 3, .aload 0, .getfield 35923, .iload 3, .sipush 1, .isub, .iaload, .iastore, .iinc 3 (-1), .goto 6]
def b2246_7 : List Instr := [.aload 0, .getfield 35923, .iload 3, .iload 2, .iastore, .aload 0, .getfield 35915, .aload 0, .getfield 35904, .dup2, .iaload, .sipush 1, .iadd, .iastore, .goto_w 8]
def b2246_8 : List Instr := [.iinc 2 1, .goto 5]
def b2246_9 : List Instr := [.aload 0, .dup, .getfield 35904, .sipush 1, .iadd, .putfield 35904, .aload 0, .getfield 35904, .sipush 1, .isub, .jsr 0]
/-- TimberHouseModel$Shop.set(I)I -/
def m2246 : pm_M := (fun j => [b2246_0, b2246_1, b2246_2, b2246_3, b2246_4, b2246_5, b2246_6, b2246_7, b2246_8, b2246_9].getD j [], fun _ => [], 35, 4)
def b2247_0 : List Instr := [.aload 0, .aload 0, .iload 1, .invokeinterface 2248 2, .ifCond .eq 1, .aload 0, .iload 2, .invokeinterface 2248 2, .ifCond .eq 1, .sipush 0, .goto 2]
def b2247_1 : List Instr := [.sipush 1, .goto_w 2]
def b2247_2 : List Instr := [.putfield 35840, .sipush 0, .istore 3, .sipush 0, .istore 4, .goto_w 3]
def b2247_3 : List Instr := [.aload 0, .getfield 35840, .ifCond .ne 5, .iload 4, .aload 0, .getfield 35915, .iload 2, .iaload, .if_icmp .ge 5, .aload 0, .iload 1, .aload 0, .getfield 35923, .sipush 300, .iload 2, .imul, .iload 4, .iadd, .iaload, .invokeinterface 2249 3, .ifCond .ne 4, .aload 0, .iload 1, .aload 0, .getfield 35923, .sipush 300, .iload 2, .imul, .iload 4, .iadd, .iaload, .invokeinterface 2250 3, .iinc 3 1, .goto_w 4]
def b2247_4 : List Instr := [.iinc 4 1, .goto 3]
def b2247_5 : List Instr := [.iload 3, .jsr 0]
/-- TimberHouseModel$Shop.join(II)I -/
def m2247 : pm_M := (fun j => [b2247_0, b2247_1, b2247_2, b2247_3, b2247_4, b2247_5].getD j [], fun _ => [], 35, 5)
def b2248_0 : List Instr := [.iload 1, .ifCond .lt 1, .iload 1, .aload 0, .getfield 35904, .if_icmp .ge 1, .sipush 1, .goto 2]
def b2248_1 : List Instr := [.sipush 0, .goto_w 2]
def b2248_2 : List Instr := [.jsr 2]
/-- TimberHouseModel$Shop.isSet(I)Z -/
def m2248 : pm_M := (fun j => [b2248_0, b2248_1, b2248_2].getD j [], fun _ => [], 35, 2)
def b2249_0 : List Instr := [.sipush 0, .istore 3, .sipush 0, .istore 4, .goto_w 1]
def b2249_1 : List Instr := [.iload 4, .aload 0, .getfield 35915, .iload 1, .iaload, .if_icmp .ge 5, .iload 3, .ifCond .ne 2, .aload 0, .getfield 35923, .sipush 300, .iload 1, .imul, .iload 4, .iadd, .iaload, .iload 2, .if_icmp .ne 3, .goto_w 2]
def b2249_2 : List Instr := [.sipush 1, .goto 4]
def b2249_3 : List Instr := [.sipush 0, .goto_w 4]
def b2249_4 : List Instr := [.istore 3, .iinc 4 1, .goto 1]
def b2249_5 : List Instr := [.iload 3, .jsr 2]
/-- TimberHouseModel$Shop.has(II)Z -/
def m2249 : pm_M := (fun j => [b2249_0, b2249_1, b2249_2, b2249_3, b2249_4, b2249_5].getD j [], fun _ => [], 35, 5)
def b2250_0 : List Instr := [.aload 0, .getfield 35923, .sipush 300, .iload 1, .imul, .aload 0, .getfield 35915, .iload 1, .iaload, .iadd, .iload 2, .iastore, .aload 0, .getfield 35915, .iload 1, .dup2, .iaload, .sipush 1, .iadd, .iastore, .return_]
/-- TimberHouseModel$Shop.add(II)V -/
def m2250 : pm_M := (fun j => [b2250_0].getD j [], fun _ => [], 35, 3)
def b2251_0 : List Instr := [.aload 0, .aload 0, .iload 1, .invokeinterface 2248 2, .ifCond .eq 1, .aload 0, .iload 2, .invokeinterface 2248 2, .ifCond .eq 1, .sipush 0, .goto 2]
def b2251_1 : List Instr := [.sipush 1, .goto_w 2]
def b2251_2 : List Instr := [.putfield 35840, .aload 0, .getfield 35840, .ifCond .ne 3, .aload 0, .getfield 35915, .iload 1, .iaload, .aload 0, .getfield 35915, .iload 2, .iaload, .if_icmp .ne 3, .sipush 1, .goto 4]
def b2251_3 : List Instr := [.sipush 0, .goto_w 4]
def b2251_4 : List Instr := [.istore 3, .sipush 0, .istore 4, .goto_w 5]
def b2251_5 : List Instr := [.iload 3, .ifCond .eq 6, .iload 4, .aload 0, .getfield 35915, .iload 2, .iaload, .if_icmp .ge 6, .aload 0, .iload 1, .aload 0, .getfield 35923, .sipush 300, .iload 2, .imul, .iload 4, .iadd, .iaload, .invokeinterface 2249 3, .istore 3, .iinc 4 1, .goto 5]
def b2251_6 : List Instr := [.iload 3, .jsr 2]
/-- TimberHouseModel$Shop.equal(II)Z -/
def m2251 : pm_M := (fun j => [b2251_0, b2251_1, b2251_2, b2251_3, b2251_4, b2251_5, b2251_6].getD j [], fun _ => [], 35, 5)
def b2252_0 : List Instr := [.aload 0, .aload 0, .iload 1, .invokeinterface 2248 2, .ifCond .eq 1, .iload 2, .i2l, .bipush 0, .bipush 9, .invokeinterface 2242 3, .ifCond .ne 2, .goto_w 1]
def b2252_1 : List Instr := [.sipush 1, .goto 4]
def b2252_2 : List Instr := [.iload 3, .invokeinterface 2243 1, .ifCond .eq 3, .sipush 0, .goto 4]
def b2252_3 : List Instr := [.sipush 2, .goto_w 4]
def b2252_4 : List Instr := [.putfield 35840, .aload 0, .getfield 35840, .ifCond .le 5, .bipush 0, .goto 6]
def b2252_5 : List Instr := [.aload 0, .iload 1, .aload 0, .getfield 35915, .iload 1, .iaload, .iload 2, .iload 3, .lload 4, .invokeinterface 2253 6, .goto_w 6]
def b2252_6 : List Instr := [.lreturn]
/-- TimberHouseModel$Shop.at(IIIJ)J -/
def m2252 : pm_M := (fun j => [b2252_0, b2252_1, b2252_2, b2252_3, b2252_4, b2252_5, b2252_6].getD j [], fun _ => [], 35, 6)
def b2253_0 : List Instr := [.iload 4, .ifCond .ne 5, .bipush 0, .lstore 7, .sipush 0, .istore 9, .goto_w 1]
def b2253_1 : List Instr := [.iload 9, .iload 2, .if_icmp .ge 4, .aload 0, .getfield 35923, .sipush 300, .iload 1, .imul, .iload 9, .iadd, .iaload, .istore 10, .lload 7, .aload 0, .iload 10, .iload 3, .sipush 0, .lload 5, .invokeinterface 2254 5, .ifCond .eq 2, .aload 0, .getfield 35891, .iload 10, .laload, .goto 3]
def b2253_2 : List Instr := [.bipush 0, .goto_w 3]
def b2253_3 : List Instr := [.ladd, .lstore 7, .iinc 9 1, .goto 1]
def b2253_4 : List Instr := [.lload 7, .lreturn]
def b2253_5 : List Instr := [.iload 4, .istore 7, .iload 4, .sipush 2, .if_icmp .ne 6, .aload 0, .iload 1, .iload 2, .iload 3, .lload 5, .invokeinterface 2255 5, .ifCond .eq 6, .sipush 3, .istore 7, .goto 7]
def b2253_6 : List Instr := [.iload 4, .sipush 2, .if_icmp .ne 7, .aload 0, .iload 1, .iload 2, .iload 3, .lload 5, .invokeinterface 2259 5, .ifCond .eq 7, .bipush 0, .lreturn]
def b2253_7 : List Instr := [.aload 0, .iload 1, .iload 2, .iload 3, .iload 7, .lload 5, .invokeinterface 2256 6, .istore 8, .iload 8, .ifCond .ge 8, .bipush 0, .goto 9]
def b2253_8 : List Instr := [.aload 0, .getfield 35891, .iload 8, .laload, .goto_w 9]
def b2253_9 : List Instr := [.lreturn]
/-- TimberHouseModel$Shop.known(IIIIJ)J -/
def m2253 : pm_M := (fun j => [b2253_0, b2253_1, b2253_2, b2253_3, b2253_4, b2253_5, b2253_6, b2253_7, b2253_8, b2253_9].getD j [], fun _ => [], 35, 11)
def b2254_0 : List Instr := [.aload 0, .getfield 35875, .iload 1, .iaload, .iload 2, .if_icmp .ne 1, .aload 0, .getfield 35883, .iload 1, .iaload, .iload 3, .if_icmp .ne 1, .aload 0, .getfield 35899, .iload 1, .laload, .lload 4, .lcmp, .ifCond .gt 1, .sipush 1, .goto 2]
def b2254_1 : List Instr := [.sipush 0, .goto_w 2]
def b2254_2 : List Instr := [.jsr 2]
/-- TimberHouseModel$Shop.speaks(IIIJ)Z -/
def m2254 : pm_M := (fun j => [b2254_0, b2254_1, b2254_2].getD j [], fun _ => [], 35, 6)
def b2255_0 : List Instr := [.aload 0, .iload 1, .iload 2, .iload 3, .sipush 3, .lload 4, .invokeinterface 2256 6, .istore 6, .iload 6, .ifCond .lt 1, .sipush 1, .goto 2]
def b2255_1 : List Instr := [.sipush 0, .goto_w 2]
def b2255_2 : List Instr := [.istore 7, .sipush 0, .istore 8, .goto_w 3]
def b2255_3 : List Instr := [.iload 8, .iload 2, .if_icmp .ge 7, .aload 0, .getfield 35923, .sipush 300, .iload 1, .imul, .iload 8, .iadd, .iaload, .istore 9, .iload 7, .ifCond .eq 5, .aload 0, .iload 9, .iload 3, .sipush 2, .lload 4, .invokeinterface 2254 5, .ifCond .eq 4, .aload 0, .getfield 35899, .iload 6, .laload, .aload 0, .getfield 35899, .iload 9, .laload, .lcmp, .ifCond .lt 5, .goto_w 4]
def b2255_4 : List Instr := [.sipush 1, .goto 6]
def b2255_5 : List Instr := [.sipush 0, .goto_w 6]
def b2255_6 : List Instr := [.istore 7, .iinc 8 1, .goto 3]
def b2255_7 : List Instr := [.iload 7, .jsr 2]
/-- TimberHouseModel$Shop.isSettled(IIIJ)Z -/
def m2255 : pm_M := (fun j => [b2255_0, b2255_1, b2255_2, b2255_3, b2255_4, b2255_5, b2255_6, b2255_7].getD j [], fun _ => [], 35, 10)
def b2256_0 : List Instr := [.sipush (-1), .istore 7, .sipush 0, .istore 8, .goto_w 1]
def b2256_1 : List Instr := [.iload 8, .iload 2, .if_icmp .ge 4, .aload 0, .getfield 35923, .sipush 300, .iload 1, .imul, .iload 8, .iadd, .iaload, .istore 9, .aload 0, .iload 9, .iload 3, .iload 4, .lload 5, .invokeinterface 2254 5, .ifCond .eq 2, .aload 0, .iload 7, .iload 9, .invokeinterface 2257 3, .goto 3]
def b2256_2 : List Instr := [.iload 7, .goto_w 3]
def b2256_3 : List Instr := [.istore 7, .iinc 8 1, .goto 1]
def b2256_4 : List Instr := [.iload 7, .jsr 0]
/-- TimberHouseModel$Shop.latest(IIIIJ)I -/
def m2256 : pm_M := (fun j => [b2256_0, b2256_1, b2256_2, b2256_3, b2256_4].getD j [], fun _ => [], 35, 10)
def b2257_0 : List Instr := [.iload 1, .ifCond .lt 1, .iload 2, .ifCond .ge 4, .goto_w 1]
def b2257_1 : List Instr := [.iload 1, .ifCond .ge 2, .iload 2, .goto 3]
def b2257_2 : List Instr := [.iload 1, .goto_w 3]
def b2257_3 : List Instr := [.jsr 0]
def b2257_4 : List Instr := [.aload 0, .getfield 35899, .iload 1, .laload, .aload 0, .getfield 35899, .iload 2, .laload, .lcmp, .ifCond .eq 7, .aload 0, .getfield 35899, .iload 1, .laload, .aload 0, .getfield 35899, .iload 2, .laload, .invokeinterface 2258 2, .ifCond .eq 5, .iload 1, .goto 6]
def b2257_5 : List Instr := [.iload 2, .goto_w 6]
def b2257_6 : List Instr := [.jsr 0]
def b2257_7 : List Instr := [.aload 0, .getfield 35859, .iload 1, .iaload, .aload 0, .getfield 35859, .iload 2, .iaload, .if_icmp .eq 10, .aload 0, .getfield 35859, .iload 1, .iaload, .aload 0, .getfield 35859, .iload 2, .iaload, .if_icmp .le 8, .iload 1, .goto 9]
def b2257_8 : List Instr := [.iload 2, .goto_w 9]
def b2257_9 : List Instr := [.jsr 0]
def b2257_10 : List Instr := [.aload 0, .getfield 35867, .iload 1, .laload, .aload 0, .getfield 35867, .iload 2, .laload, .invokeinterface 2258 2, .ifCond .eq 11, .iload 1, .goto 12]
def b2257_11 : List Instr := [.iload 2, .goto_w 12]
def b2257_12 : List Instr := [.jsr 0]
/-- TimberHouseModel$Shop.later(II)I -/
def m2257 : pm_M := (fun j => [b2257_0, b2257_1, b2257_2, b2257_3, b2257_4, b2257_5, b2257_6, b2257_7, b2257_8, b2257_9, b2257_10, b2257_11, b2257_12].getD j [], fun _ => [], 35, 3)
def b2258_0 : List Instr := [.lload 0, .lload 2, .lcmp, .ifCond .le 1, .sipush 1, .goto 2]
def b2258_1 : List Instr := [.sipush 0, .goto_w 2]
def b2258_2 : List Instr := [.jsr 2]
/-- TimberHouseModel$Shop.isAfter(JJ)Z -/
def m2258 : pm_M := (fun j => [b2258_0, b2258_1, b2258_2].getD j [], fun _ => [], 0, 4)
def b2259_0 : List Instr := [.sipush 0, .istore 6, .sipush (-1), .istore 7, .sipush 0, .istore 8, .goto_w 1]
def b2259_1 : List Instr := [.iload 8, .iload 2, .if_icmp .ge 6, .aload 0, .getfield 35923, .sipush 300, .iload 1, .imul, .iload 8, .iadd, .iaload, .istore 9, .aload 0, .iload 9, .iload 3, .sipush 2, .lload 4, .invokeinterface 2254 5, .ifCond .eq 5, .iload 6, .ifCond .ne 2, .iload 7, .ifCond .lt 3, .aload 0, .getfield 35891, .iload 7, .laload, .aload 0, .getfield 35891, .iload 9, .laload, .lcmp, .ifCond .eq 3, .goto_w 2]
def b2259_2 : List Instr := [.sipush 1, .goto 4]
def b2259_3 : List Instr := [.sipush 0, .goto_w 4]
def b2259_4 : List Instr := [.istore 6, .iload 9, .istore 7, .goto_w 5]
def b2259_5 : List Instr := [.iinc 8 1, .goto 1]
def b2259_6 : List Instr := [.iload 6, .jsr 2]
/-- TimberHouseModel$Shop.areUnlike(IIIJ)Z -/
def m2259 : pm_M := (fun j => [b2259_0, b2259_1, b2259_2, b2259_3, b2259_4, b2259_5, b2259_6].getD j [], fun _ => [], 35, 10)
def b2260_0 : List Instr := [.aload 0, .aload 0, .iload 1, .invokeinterface 2248 2, .ifCond .ne 1, .sipush 1, .goto 3]
def b2260_1 : List Instr := [.iload 2, .ifCond .ge 2, .sipush 2, .goto 3]
def b2260_2 : List Instr := [.sipush 0, .goto_w 3]
def b2260_3 : List Instr := [.putfield 35840, .iload 2, .istore 3, .sipush 0, .istore 4, .goto_w 4]
def b2260_4 : List Instr := [.iload 4, .sipush 10, .if_icmp .ge 7, .aload 0, .getfield 35840, .ifCond .ne 7, .aload 0, .iload 1, .aload 0, .getfield 35915, .iload 1, .iaload, .iload 4, .invokeinterface 2261 0, .invokeinterface 2259 5, .ifCond .eq 6, .aload 0, .iload 1, .aload 0, .getfield 35915, .iload 1, .iaload, .iload 4, .invokeinterface 2261 0, .invokeinterface 2255 5, .ifCond .ne 6, .iload 3, .ifCond .ne 5, .iload 4, .jsr 0]
def b2260_5 : List Instr := [.iinc 3 (-1), .goto_w 6]
def b2260_6 : List Instr := [.iinc 4 1, .goto 4]
def b2260_7 : List Instr := [.aload 0, .getfield 35840, .ifCond .le 8, .sipush 0, .goto 9]
def b2260_8 : List Instr := [.sipush (-1), .goto_w 9]
def b2260_9 : List Instr := [.jsr 0]
/-- TimberHouseModel$Shop.conflict(II)I -/
def m2260 : pm_M := (fun j => [b2260_0, b2260_1, b2260_2, b2260_3, b2260_4, b2260_5, b2260_6, b2260_7, b2260_8, b2260_9].getD j [], fun _ => [], 35, 5)
def b2261_0 : List Instr := [.bipush 9223372036854775807, .lreturn]
/-- TimberHouseModel$Shop.end()J -/
def m2261 : pm_M := (fun j => [b2261_0].getD j [], fun _ => [], 0, 0)
def b2262_0 : List Instr := [.aload 0, .aload 0, .iload 1, .invokeinterface 2248 2, .ifCond .eq 1, .sipush 0, .goto 2]
def b2262_1 : List Instr := [.sipush 1, .goto_w 2]
def b2262_2 : List Instr := [.putfield 35840, .aload 0, .getfield 35840, .ifCond .le 3, .sipush 0, .goto 4]
def b2262_3 : List Instr := [.aload 0, .getfield 35915, .iload 1, .iaload, .goto_w 4]
def b2262_4 : List Instr := [.jsr 0]
/-- TimberHouseModel$Shop.mark(I)I -/
def m2262 : pm_M := (fun j => [b2262_0, b2262_1, b2262_2, b2262_3, b2262_4].getD j [], fun _ => [], 35, 2)
def b2263_0 : List Instr := [.aload 0, .aload 0, .iload 1, .invokeinterface 2248 2, .ifCond .eq 1, .iload 2, .ifCond .lt 2, .iload 3, .ifCond .lt 2, .iload 2, .i2l, .iload 3, .i2l, .ladd, .aload 0, .getfield 35915, .iload 1, .iaload, .i2l, .lcmp, .ifCond .lt 2, .goto_w 1]
def b2263_1 : List Instr := [.sipush 1, .goto 5]
def b2263_2 : List Instr := [.iload 2, .ifCond .lt 3, .iload 3, .ifCond .lt 3, .iload 4, .i2l, .bipush 0, .bipush 2, .invokeinterface 2242 3, .ifCond .ne 4, .goto_w 3]
def b2263_3 : List Instr := [.sipush 2, .goto 5]
def b2263_4 : List Instr := [.sipush 0, .goto_w 5]
def b2263_5 : List Instr := [.putfield 35840, .aload 0, .getfield 35840, .ifCond .le 6, .bipush 0, .lreturn]
def b2263_6 : List Instr := [.aload 0, .getfield 35923, .sipush 300, .iload 1, .imul, .iload 2, .iadd, .iload 3, .iadd, .iaload, .istore 5, .iload 4, .ifCond .ne 7, .aload 0, .getfield 35859, .iload 5, .iaload, .i2l, .goto 9]
def b2263_7 : List Instr := [.iload 4, .sipush 1, .if_icmp .ne 8, .aload 0, .getfield 35867, .iload 5, .laload, .goto 9]
def b2263_8 : List Instr := [.aload 0, .getfield 35891, .iload 5, .laload, .goto_w 9]
def b2263_9 : List Instr := [.lreturn]
/-- TimberHouseModel$Shop.since(IIII)J -/
def m2263 : pm_M := (fun j => [b2263_0, b2263_1, b2263_2, b2263_3, b2263_4, b2263_5, b2263_6, b2263_7, b2263_8, b2263_9].getD j [], fun _ => [], 35, 6)
def b2264_0 : List Instr := [.aload 0, .aload 0, .iload 1, .invokeinterface 2248 2, .ifCond .eq 1, .sipush 0, .goto 2]
def b2264_1 : List Instr := [.sipush 1, .goto_w 2]
def b2264_2 : List Instr := [.putfield 35840, .aload 0, .getfield 35840, .ifCond .gt 5, .aload 0, .getfield 35931, .iload 1, .iaload, .ifCond .lt 3, .sipush 1, .goto 4]
def b2264_3 : List Instr := [.sipush 0, .goto_w 4]
def b2264_4 : List Instr := [.iload 2, .if_icmp .ne 6, .goto_w 5]
def b2264_5 : List Instr := [.sipush 0, .jsr 2]
def b2264_6 : List Instr := [.aload 0, .getfield 35931, .iload 1, .iload 2, .ifCond .eq 7, .aload 0, .getfield 35915, .iload 1, .iaload, .goto 8]
def b2264_7 : List Instr := [.sipush (-1), .goto_w 8]
def b2264_8 : List Instr := [.iastore, .sipush 1, .jsr 2]
/-- TimberHouseModel$Shop.batch(IZ)Z -/
def m2264 : pm_M := (fun j => [b2264_0, b2264_1, b2264_2, b2264_3, b2264_4, b2264_5, b2264_6, b2264_7, b2264_8].getD j [], fun _ => [], 35, 3)
def b2265_0 : List Instr := [.aload 0, .iload 1, .i2l, .bipush 0, .bipush 3, .invokeinterface 2242 3, .ifCond .ne 1, .sipush 1, .goto 3]
def b2265_1 : List Instr := [.iload 2, .invokeinterface 2243 1, .ifCond .eq 2, .sipush 0, .goto 3]
def b2265_2 : List Instr := [.sipush 2, .goto_w 3]
def b2265_3 : List Instr := [.putfield 35840, .aload 0, .getfield 35840, .ifCond .gt 4, .aload 0, .getfield 35939, .sipush 4, .iload 1, .imul, .iload 2, .iadd, .baload, .iload 3, .if_icmp .ne 5, .goto_w 4]
def b2265_4 : List Instr := [.sipush 0, .jsr 2]
def b2265_5 : List Instr := [.aload 0, .getfield 35939, .sipush 4, .iload 1, .imul, .iload 2, .iadd, .iload 3, .bastore, .sipush 1, .jsr 2]
/-- TimberHouseModel$Shop.right(IIZ)Z -/
def m2265 : pm_M := (fun j => [b2265_0, b2265_1, b2265_2, b2265_3, b2265_4, b2265_5].getD j [], fun _ => [], 35, 4)
def b2266_0 : List Instr := [.aload 0, .iload 1, .i2l, .bipush 0, .bipush 3, .invokeinterface 2242 3, .ifCond .eq 1, .aload 0, .iload 2, .invokeinterface 2248 2, .ifCond .eq 1, .iload 3, .i2l, .bipush 0, .bipush 9, .invokeinterface 2242 3, .ifCond .ne 2, .goto_w 1]
def b2266_1 : List Instr := [.sipush 1, .goto 5]
def b2266_2 : List Instr := [.iload 4, .invokeinterface 2243 1, .ifCond .ne 3, .sipush 2, .goto 5]
def b2266_3 : List Instr := [.aload 0, .getfield 35939, .sipush 4, .iload 1, .imul, .iload 4, .iadd, .baload, .ifCond .eq 4, .sipush 0, .goto 5]
def b2266_4 : List Instr := [.sipush 3, .goto_w 5]
def b2266_5 : List Instr := [.putfield 35840, .aload 0, .getfield 35840, .ifCond .le 6, .bipush 0, .goto 9]
def b2266_6 : List Instr := [.aload 0, .iload 2, .aload 0, .getfield 35931, .iload 2, .iaload, .ifCond .lt 7, .aload 0, .getfield 35931, .iload 2, .iaload, .goto 8]
def b2266_7 : List Instr := [.aload 0, .getfield 35915, .iload 2, .iaload, .goto_w 8]
def b2266_8 : List Instr := [.iload 3, .iload 4, .invokeinterface 2261 0, .invokeinterface 2253 6, .goto_w 9]
def b2266_9 : List Instr := [.lreturn]
/-- TimberHouseModel$Shop.seen(IIII)J -/
def m2266 : pm_M := (fun j => [b2266_0, b2266_1, b2266_2, b2266_3, b2266_4, b2266_5, b2266_6, b2266_7, b2266_8, b2266_9].getD j [], fun _ => [], 35, 5)
def b2267_0 : List Instr := [.aload 0, .iload 1, .i2l, .bipush 0, .bipush 3599, .invokeinterface 2242 3, .ifCond .ne 1, .sipush 1, .goto 3]
def b2267_1 : List Instr := [.aload 0, .getfield 35944, .sipush 60, .if_icmp .ne 2, .sipush 2, .goto 3]
def b2267_2 : List Instr := [.sipush 0, .goto_w 3]
def b2267_3 : List Instr := [.putfield 35840, .aload 0, .getfield 35840, .ifCond .le 4, .sipush 0, .goto 5]
def b2267_4 : List Instr := [.aload 0, .iload 1, .invokeinterface 2268 2, .goto_w 5]
def b2267_5 : List Instr := [.jsr 0]
/-- TimberHouseModel$Shop.entry(I)I -/
def m2267 : pm_M := (fun j => [b2267_0, b2267_1, b2267_2, b2267_3, b2267_4, b2267_5].getD j [], fun _ => [], 35, 2)
def b2268_0 : List Instr := [.aload 0, .getfield 35955, .aload 0, .getfield 35944, .iload 1, .iastore, .aload 0, .dup, .getfield 35944, .sipush 1, .iadd, .putfield 35944, .aload 0, .getfield 35944, .sipush 1, .isub, .jsr 0]
/-- TimberHouseModel$Shop.open(I)I -/
def m2268 : pm_M := (fun j => [b2268_0].getD j [], fun _ => [], 35, 2)
def b2269_0 : List Instr := [.aload 0, .aload 0, .iload 1, .invokeinterface 2270 2, .ifCond .eq 1, .iload 2, .i2l, .bipush 0, .bipush 9, .invokeinterface 2242 3, .ifCond .ne 2, .goto_w 1]
def b2269_1 : List Instr := [.sipush 1, .goto 6]
def b2269_2 : List Instr := [.lload 3, .bipush (-1000000000), .bipush 1000000000, .invokeinterface 2242 3, .ifCond .ne 3, .sipush 2, .goto 6]
def b2269_3 : List Instr := [.aload 0, .getfield 35963, .iload 1, .iaload, .sipush 6, .if_icmp .eq 4, .aload 0, .getfield 35987, .iload 1, .iaload, .ifCond .le 5, .goto_w 4]
def b2269_4 : List Instr := [.sipush 3, .goto 6]
def b2269_5 : List Instr := [.sipush 0, .goto_w 6]
def b2269_6 : List Instr := [.putfield 35840, .aload 0, .getfield 35840, .ifCond .le 7, .sipush 0, .jsr 0]
def b2269_7 : List Instr := [.aload 0, .iload 1, .iload 2, .lload 3, .invokeinterface 2271 4, .aload 0, .getfield 35963, .iload 1, .iaload, .jsr 0]
/-- TimberHouseModel$Shop.row(IIJ)I -/
def m2269 : pm_M := (fun j => [b2269_0, b2269_1, b2269_2, b2269_3, b2269_4, b2269_5, b2269_6, b2269_7].getD j [], fun _ => [], 35, 5)
def b2270_0 : List Instr := [.iload 1, .ifCond .lt 1, .iload 1, .aload 0, .getfield 35944, .if_icmp .ge 1, .sipush 1, .goto 2]
def b2270_1 : List Instr := [.sipush 0, .goto_w 2]
def b2270_2 : List Instr := [.jsr 2]
/-- TimberHouseModel$Shop.isEntry(I)Z -/
def m2270 : pm_M := (fun j => [b2270_0, b2270_1, b2270_2].getD j [], fun _ => [], 35, 2)
def b2271_0 : List Instr := [.aload 0, .getfield 35971, .sipush 6, .iload 1, .imul, .aload 0, .getfield 35963, .iload 1, .iaload, .iadd, .iload 2, .iastore, .aload 0, .getfield 35979, .sipush 6, .iload 1, .imul, .aload 0, .getfield 35963, .iload 1, .iaload, .iadd, .lload 3, .lastore, .aload 0, .getfield 35963, .iload 1, .dup2, .iaload, .sipush 1, .iadd, .iastore, .return_]
/-- TimberHouseModel$Shop.addRow(IIJ)V -/
def m2271 : pm_M := (fun j => [b2271_0].getD j [], fun _ => [], 35, 5)
def b2272_0 : List Instr := [.aload 0, .aload 0, .iload 1, .invokeinterface 2270 2, .ifCond .ne 1, .sipush 1, .goto 3]
def b2272_1 : List Instr := [.aload 0, .getfield 35987, .iload 1, .iaload, .ifCond .le 2, .sipush 2, .goto 3]
def b2272_2 : List Instr := [.sipush 0, .goto_w 3]
def b2272_3 : List Instr := [.putfield 35840, .aload 0, .getfield 35840, .ifCond .le 4, .sipush 0, .jsr 0]
def b2272_4 : List Instr := [.bipush 0, .lstore 2, .sipush 0, .istore 4, .goto_w 5]
def b2272_5 : List Instr := [.iload 4, .aload 0, .getfield 35963, .iload 1, .iaload, .if_icmp .ge 6, .lload 2, .aload 0, .getfield 35979, .sipush 6, .iload 1, .imul, .iload 4, .iadd, .laload, .ladd, .lstore 2, .iinc 4 1, .goto 5]
def b2272_6 : List Instr := [.aload 0, .getfield 35963, .iload 1, .iaload, .ifCond .eq 7, .lload 2, .bipush 0, .lcmp, .ifCond .ne 7, .aload 0, .getfield 35955, .iload 1, .iaload, .sipush 30, .idiv, .aload 0, .getfield 36008, .if_icmp .gt 8, .goto_w 7]
def b2272_7 : List Instr := [.sipush 0, .jsr 0]
def b2272_8 : List Instr := [.aload 0, .iload 1, .invokeinterface 2273 2, .aload 0, .getfield 36000, .jsr 0]
/-- TimberHouseModel$Shop.close(I)I -/
def m2272 : pm_M := (fun j => [b2272_0, b2272_1, b2272_2, b2272_3, b2272_4, b2272_5, b2272_6, b2272_7, b2272_8].getD j [], fun _ => [], 35, 5)
def b2273_0 : List Instr := [.aload 0, .dup, .getfield 36000, .sipush 1, .iadd, .putfield 36000, .aload 0, .getfield 35987, .iload 1, .aload 0, .getfield 36000, .iastore, .return_]
/-- TimberHouseModel$Shop.closeNow(I)V -/
def m2273 : pm_M := (fun j => [b2273_0].getD j [], fun _ => [], 35, 2)
def b2274_0 : List Instr := [.aload 0, .iload 1, .i2l, .bipush 0, .bipush 9, .invokeinterface 2242 3, .ifCond .eq 1, .sipush 0, .goto 2]
def b2274_1 : List Instr := [.sipush 1, .goto_w 2]
def b2274_2 : List Instr := [.putfield 35840, .bipush 0, .lstore 3, .sipush 0, .istore 5, .goto_w 3]
def b2274_3 : List Instr := [.iload 5, .aload 0, .getfield 35944, .if_icmp .ge 8, .aload 0, .getfield 35840, .ifCond .ne 8, .sipush 6, .iload 5, .imul, .istore 6, .goto_w 4]
def b2274_4 : List Instr := [.iload 6, .sipush 6, .iload 5, .imul, .aload 0, .getfield 35963, .iload 5, .iaload, .iadd, .if_icmp .ge 7, .lload 3, .aload 0, .getfield 35987, .iload 5, .iaload, .ifCond .le 5, .aload 0, .getfield 35955, .iload 5, .iaload, .iload 2, .if_icmp .gt 5, .aload 0, .getfield 35971, .iload 6, .iaload, .iload 1, .if_icmp .ne 5, .aload 0, .getfield 35979, .iload 6, .laload, .goto 6]
def b2274_5 : List Instr := [.bipush 0, .goto_w 6]
def b2274_6 : List Instr := [.ladd, .lstore 3, .iinc 6 1, .goto 4]
def b2274_7 : List Instr := [.iinc 5 1, .goto 3]
def b2274_8 : List Instr := [.lload 3, .lreturn]
/-- TimberHouseModel$Shop.balance(II)J -/
def m2274 : pm_M := (fun j => [b2274_0, b2274_1, b2274_2, b2274_3, b2274_4, b2274_5, b2274_6, b2274_7, b2274_8].getD j [], fun _ => [], 35, 7)
def b2275_0 : List Instr := [.aload 0, .iload 1, .i2l, .bipush 0, .bipush 119, .invokeinterface 2242 3, .ifCond .eq 1, .sipush 0, .goto 2]
def b2275_1 : List Instr := [.sipush 1, .goto_w 2]
def b2275_2 : List Instr := [.putfield 35840, .aload 0, .getfield 35840, .ifCond .gt 3, .iload 1, .aload 0, .getfield 36008, .if_icmp .gt 4, .goto_w 3]
def b2275_3 : List Instr := [.sipush 0, .jsr 2]
def b2275_4 : List Instr := [.aload 0, .iload 1, .putfield 36008, .sipush 1, .jsr 2]
/-- TimberHouseModel$Shop.closeMonth(I)Z -/
def m2275 : pm_M := (fun j => [b2275_0, b2275_1, b2275_2, b2275_3, b2275_4].getD j [], fun _ => [], 35, 2)
def b2276_0 : List Instr := [.aload 0, .iload 1, .sipush 1, .if_icmp .lt 1, .iload 1, .aload 0, .getfield 36000, .if_icmp .le 2, .goto_w 1]
def b2276_1 : List Instr := [.sipush 1, .goto 4]
def b2276_2 : List Instr := [.iload 2, .i2l, .bipush 0, .bipush 3599, .invokeinterface 2242 3, .ifCond .eq 3, .sipush 0, .goto 4]
def b2276_3 : List Instr := [.sipush 2, .goto_w 4]
def b2276_4 : List Instr := [.putfield 35840, .aload 0, .getfield 35840, .ifCond .le 5, .sipush 0, .jsr 0]
def b2276_5 : List Instr := [.sipush 0, .istore 3, .goto_w 6]
def b2276_6 : List Instr := [.aload 0, .getfield 35987, .iload 3, .iaload, .iload 1, .if_icmp .eq 7, .iinc 3 1, .goto 6]
def b2276_7 : List Instr := [.aload 0, .aload 0, .getfield 35995, .iload 3, .baload, .ifCond .ne 8, .aload 0, .getfield 35944, .sipush 60, .if_icmp .ne 9, .goto_w 8]
def b2276_8 : List Instr := [.sipush 3, .goto 10]
def b2276_9 : List Instr := [.sipush 0, .goto_w 10]
def b2276_10 : List Instr := [.putfield 35840, .aload 0, .getfield 35840, .ifCond .gt 11, .iload 2, .sipush 30, .idiv, .aload 0, .getfield 36008, .if_icmp .gt 12, .goto_w 11]
def b2276_11 : List Instr := [.sipush 0, .jsr 0]
def b2276_12 : List Instr := [.aload 0, .iload 2, .invokeinterface 2268 2, .istore 4, .sipush 6, .iload 3, .imul, .istore 5, .goto_w 13]
def b2276_13 : List Instr := [.iload 5, .sipush 6, .iload 3, .imul, .aload 0, .getfield 35963, .iload 3, .iaload, .iadd, .if_icmp .ge 14, .aload 0, .iload 4, .aload 0, .getfield 35971, .iload 5, .iaload, .aload 0, .getfield 35979, .iload 5, .laload, .lneg, .invokeinterface 2271 4, .iinc 5 1, .goto 13]
def b2276_14 : List Instr := [.aload 0, .getfield 35995, .iload 3, .sipush 1, .bastore, .aload 0, .getfield 35995, .iload 4, .sipush 1, .bastore, .aload 0, .iload 4, .invokeinterface 2273 2, .aload 0, .getfield 36000, .jsr 0]
/-- TimberHouseModel$Shop.reverse(II)I -/
def m2276 : pm_M := (fun j => [b2276_0, b2276_1, b2276_2, b2276_3, b2276_4, b2276_5, b2276_6, b2276_7, b2276_8, b2276_9, b2276_10, b2276_11, b2276_12, b2276_13, b2276_14].getD j [], fun _ => [], 35, 6)
def b2304_0 : List Instr := [.aload 0, .f2i, .aload 0, .iload 1, .putfield 36864, .aload 0, .iload 2, .putfield 36872, .aload 0, .iload 3, .putfield 36880, .aload 0, .iload 4, .putfield 36888, .return_]
/-- TimberHouse$SawGrids$Size.<init>(IIII)V -/
def m2304 : pm_M := (fun j => [b2304_0].getD j [], fun _ => [], 36, 5)
def b2368_0 : List Instr := [.aload 0, .f2i, .aload 0, .iload 1, .putfield 37888, .aload 0, .iload 2, .putfield 37896, .aload 0, .iload 3, .putfield 37904, .aload 0, .iload 4, .putfield 37912, .aload 0, .iload 5, .putfield 37920, .aload 0, .iload 6, .putfield 37928, .return_]
/-- TimberHouse$FaultRips$Fault.<init>(IIIIII)V -/
def m2368 : pm_M := (fun j => [b2368_0].getD j [], fun _ => [], 37, 7)
def b2369_0 : List Instr := [.aload 0, .getfield 37904, .iload 5, .isub, .iload 2, .if_icmp .ge 1, .aload 0, .getfield 37904, .aload 0, .getfield 37920, .iadd, .iload 5, .iadd, .iload 1, .if_icmp .le 1, .aload 0, .getfield 37912, .iload 5, .isub, .iload 4, .if_icmp .ge 1, .aload 0, .getfield 37912, .aload 0, .getfield 37928, .iadd, .iload 5, .iadd, .iload 3, .if_icmp .le 1, .sipush 1, .goto 2]
def b2369_1 : List Instr := [.sipush 0, .goto_w 2]
def b2369_2 : List Instr := [.jsr 2]
/-- TimberHouse$FaultRips$Fault.overlaps(IIIII)Z -/
def m2369 : pm_M := (fun j => [b2369_0, b2369_1, b2369_2].getD j [], fun _ => [], 37, 6)
def b2370_0 : List Instr := [.sipush 1, .sipush 8, .aload 0, .getfield 37888, .imul, .aload 0, .getfield 37896, .iadd, .ishl, .jsr 0]
/-- TimberHouse$FaultRips$Fault.bit()I -/
def m2370 : pm_M := (fun j => [b2370_0].getD j [], fun _ => [], 37, 1)
def b2432_0 : List Instr := [.aload 0, .f2i, .aload 0, .sipush (-1), .putfield 38952, .aload 0, .iload 1, .putfield 38912, .aload 0, .iload 2, .putfield 38920, .aload 0, .iload 3, .putfield 38928, .aload 0, .lload 4, .putfield 38937, .return_]
/-- TimberHouse$FaultRips$Piece.<init>(IIIJ)V -/
def m2432 : pm_M := (fun j => [b2432_0].getD j [], fun _ => [], 38, 6)
def b2433_0 : List Instr := [.iload 2, .aload 0, .getfield 38912, .if_icmp .ne 1, .iload 1, .aload 0, .getfield 38920, .if_icmp .lt 1, .iload 1, .aload 0, .getfield 38928, .iload 3, .invokeinterface 3840 2, .if_icmp .gt 1, .iload 4, .aload 0, .getfield 38944, .sipush (-1), .ixor, .iand, .ifCond .ne 1, .sipush 1, .goto 2]
def b2433_1 : List Instr := [.sipush 0, .goto_w 2]
def b2433_2 : List Instr := [.jsr 2]
/-- TimberHouse$FaultRips$Piece.may(IIII)Z -/
def m2433 : pm_M := (fun j => [b2433_0, b2433_1, b2433_2].getD j [], fun _ => [], 38, 5)
def b2496_0 : List Instr := [.aload 0, .f2i, .aload 0, .new 63, .dup, .invokeinterface 4032 1, .putfield 39939, .aload 0, .iload 1, .putfield 39952, .return_]
/-- TimberHouse$LathePieces$Profile.<init>(I)V -/
def m2496 : pm_M := (fun j => [b2496_0].getD j [], fun _ => [], 39, 2)
def b2497_0 : List Instr := [.aload 0, .getfield 39939, .aload 1, .invokeinterface 4036 2, .pop, .aload 0, .aload 1, .getfield 40968, .putfield 39944, .aload 0, .iload 2, .putfield 39952, .return_]
/-- TimberHouse$LathePieces$Profile.go(LTimberHouse$LathePieces$Way;I)V -/
def m2497 : pm_M := (fun j => [b2497_0].getD j [], fun _ => [], 39, 3)
def b2560_0 : List Instr := [.aload 0, .f2i, .aload 0, .iload 1, .putfield 40960, .aload 0, .iload 2, .putfield 40968, .return_]
/-- TimberHouse$LathePieces$Way.<init>(II)V -/
def m2560 : pm_M := (fun j => [b2560_0].getD j [], fun _ => [], 40, 3)
def b2624_0 : List Instr := [.aload 0, .iload 1, .iload 2, .invokeinterface 2560 3, .aload 0, .iload 3, .putfield 42000, .aload 0, .iload 4, .iload 3, .isub, .putfield 42008, .return_]
/-- TimberHouse$LathePieces$Line.<init>(IIII)V -/
def m2624 : pm_M := (fun j => [b2624_0].getD j [], fun _ => [], 41, 5)
def b2625_0 : List Instr := [.iload 1, .aload 0, .getfield 41984, .isub, .aload 0, .getfield 42008, .imul, .istore 2, .aload 0, .getfield 41992, .aload 0, .getfield 41984, .isub, .istore 3, .aload 0, .getfield 42000, .iload 2, .ifCond .ge 1, .iload 3, .sipush 1, .isub, .iload 2, .isub, .iload 3, .idiv, .ineg, .goto 2]
def b2625_1 : List Instr := [.iload 2, .iload 3, .idiv, .goto_w 2]
def b2625_2 : List Instr := [.iadd, .jsr 0]
/-- TimberHouse$LathePieces$Line.radius(I)I -/
def m2625 : pm_M := (fun j => [b2625_0, b2625_1, b2625_2].getD j [], fun _ => [], 41, 4)
def b2688_0 : List Instr := [.aload 0, .iload 1, .iload 2, .invokeinterface 2560 3, .aload 0, .iload 3, .putfield 43024, .aload 0, .iload 4, .putfield 43032, .aload 0, .iload 5, .putfield 43040, .aload 0, .iload 6, .putfield 43050, .return_]
/-- TimberHouse$LathePieces$Arc.<init>(IIIIIZ)V -/
def m2688 : pm_M := (fun j => [b2688_0].getD j [], fun _ => [], 42, 7)
def b2689_0 : List Instr := [.aload 0, .getfield 43040, .iload 1, .aload 0, .getfield 43024, .isub, .invokeinterface 653 1, .isub, .invokeinterface 655 1, .istore 2, .aload 0, .getfield 43050, .ifCond .eq 1, .aload 0, .getfield 43032, .iload 2, .iadd, .goto 2]
def b2689_1 : List Instr := [.aload 0, .getfield 43032, .iload 2, .isub, .goto_w 2]
def b2689_2 : List Instr := [.istore 3, .sipush 0, .sipush 500, .iload 3, .invokeinterface 3840 2, .invokeinterface 3841 2, .jsr 0]
/-- TimberHouse$LathePieces$Arc.radius(I)I -/
def m2689 : pm_M := (fun j => [b2689_0, b2689_1, b2689_2].getD j [], fun _ => [], 42, 4)
def b2752_0 : List Instr := [.aload 0, .getfield 44035, .arraylength, .sipush 1, .isub, .jsr 0]
/-- TimberHouse$LathePieces$Piece.length()I -/
def m2752 : pm_M := (fun j => [b2752_0].getD j [], fun _ => [], 43, 1)
def b2753_0 : List Instr := [.sipush 0, .istore 1, .aload 0, .getfield 44035, .astore 2, .aload 2, .arraylength, .istore 3, .sipush 0, .istore 4, .goto_w 1]
def b2753_1 : List Instr := [.iload 4, .iload 3, .if_icmp .ge 2, .aload 2, .iload 4, .iaload, .istore 5, .iload 1, .iload 5, .invokeinterface 3841 2, .istore 1, .iinc 4 1, .goto 1]
def b2753_2 : List Instr := [.iload 1, .sipush 3, .iadd, .jsr 0]
/-- TimberHouse$LathePieces$Piece.blank()I -/
def m2753 : pm_M := (fun j => [b2753_0, b2753_1, b2753_2].getD j [], fun _ => [], 43, 6)
def b2754_0 : List Instr := [.aload 0, .f2i, .aload 0, .aload 1, .getfield 39944, .sipush 1, .iadd, .newarray .int, .putfield 44035, .aload 0, .aload 1, .getfield 39939, .invokeinterface 4033 1, .putfield 44040, .sipush 0, .istore 2, .sipush 0, .istore 3, .goto_w 1]
def b2754_1 : List Instr := [.iload 3, .aload 0, .getfield 44035, .arraylength, .if_icmp .ge 4, .goto_w 2]
def b2754_2 : List Instr := [.aload 1, .getfield 39939, .iload 2, .invokeinterface 4034 2, .checkcast 40, .getfield 40968, .iload 3, .if_icmp .ge 3, .iinc 2 1, .goto 2]
def b2754_3 : List Instr := [.aload 0, .getfield 44035, .iload 3, .aload 1, .getfield 39939, .iload 2, .invokeinterface 4034 2, .checkcast 40, .iload 3, .invokedynamic 2, .iastore, .iinc 3 1, .goto 1]
def b2754_4 : List Instr := [.return_]
/-- TimberHouse$LathePieces$Piece.<init>(LTimberHouse$LathePieces$Profile;)V -/
def m2754 : pm_M := (fun j => [b2754_0, b2754_1, b2754_2, b2754_3, b2754_4].getD j [], fun _ => [], 43, 4)
def b2755_0 : List Instr := [.aload 0, .getfield 44035, .iload 1, .iaload, .istore 3, .iload 1, .sipush 1, .iadd, .istore 4, .iload 1, .sipush 1, .iadd, .istore 5, .goto_w 1]
def b2755_1 : List Instr := [.iload 5, .aload 0, .invokeinterface 2752 1, .if_icmp .gt 3, .iload 3, .aload 0, .getfield 44035, .iload 5, .iaload, .invokeinterface 3840 2, .istore 3, .iload 5, .iload 1, .isub, .iload 2, .imul, .iload 3, .if_icmp .gt 2, .iload 5, .istore 4, .goto_w 2]
def b2755_2 : List Instr := [.iinc 5 1, .goto 1]
def b2755_3 : List Instr := [.iload 4, .jsr 0]
/-- TimberHouse$LathePieces$Piece.held(II)I -/
def m2755 : pm_M := (fun j => [b2755_0, b2755_1, b2755_2, b2755_3].getD j [], fun _ => [], 43, 6)
def b2756_0 : List Instr := [.bipush 0, .lstore 2, .sipush 0, .istore 4, .goto_w 1]
def b2756_1 : List Instr := [.iload 4, .aload 0, .invokeinterface 2752 1, .if_icmp .ge 6, .aload 0, .getfield 44035, .iload 4, .iaload, .istore 5, .aload 0, .getfield 44035, .iload 4, .sipush 1, .iadd, .iaload, .istore 6, .lload 2, .iload 1, .iload 5, .iload 6, .if_icmp .le 2, .sipush 1, .goto 3]
def b2756_2 : List Instr := [.sipush 0, .goto_w 3]
def b2756_3 : List Instr := [.if_icmp .ne 4, .iload 5, .goto 5]
def b2756_4 : List Instr := [.iload 6, .goto_w 5]
def b2756_5 : List Instr := [.invokeinterface 653 1, .i2l, .ladd, .lstore 2, .iinc 4 1, .goto 1]
def b2756_6 : List Instr := [.lload 2, .lreturn]
/-- TimberHouse$LathePieces$Piece.squares(Z)J -/
def m2756 : pm_M := (fun j => [b2756_0, b2756_1, b2756_2, b2756_3, b2756_4, b2756_5, b2756_6].getD j [], fun _ => [], 43, 7)
def b2816_0 : List Instr := [.sipush 2147483647, .istore 3, .aload 0, .iload 2, .invokeinterface 2817 2, .istore 4, .goto_w 1]
def b2816_1 : List Instr := [.iload 4, .aload 0, .iload 2, .aload 1, .invokeinterface 2752 1, .invokeinterface 2818 3, .if_icmp .gt 2, .iload 3, .aload 0, .aload 1, .iload 4, .invokeinterface 2819 3, .aload 0, .iload 2, .iload 4, .invokeinterface 2820 3, .isub, .invokeinterface 3840 2, .istore 3, .iinc 4 1, .goto 1]
def b2816_2 : List Instr := [.iload 3, .jsr 0]
/-- TimberHouse$LathePieces$Tool.reached(LTimberHouse$LathePieces$Piece;I)I -/
def m2816 : pm_M := (fun j => [b2816_0, b2816_1, b2816_2].getD j [], fun _ => [], 44, 5)
def b2817_0 : List Instr := [.iload 1, .aload 0, .getfield 45056, .if_icmp .ge 1, .sipush 0, .goto 2]
def b2817_1 : List Instr := [.iload 1, .aload 0, .getfield 45056, .isub, .goto_w 2]
def b2817_2 : List Instr := [.jsr 0]
/-- TimberHouse$LathePieces$Tool.first(I)I -/
def m2817 : pm_M := (fun j => [b2817_0, b2817_1, b2817_2].getD j [], fun _ => [], 44, 2)
def b2818_0 : List Instr := [.iload 1, .aload 0, .getfield 45056, .iadd, .iload 2, .if_icmp .le 1, .iload 2, .goto 2]
def b2818_1 : List Instr := [.iload 1, .aload 0, .getfield 45056, .iadd, .goto_w 2]
def b2818_2 : List Instr := [.jsr 0]
/-- TimberHouse$LathePieces$Tool.last(II)I -/
def m2818 : pm_M := (fun j => [b2818_0, b2818_1, b2818_2].getD j [], fun _ => [], 44, 3)
def b2819_0 : List Instr := [.sipush 0, .istore 3, .aload 0, .iload 2, .invokeinterface 2817 2, .istore 4, .goto_w 1]
def b2819_1 : List Instr := [.iload 4, .aload 0, .iload 2, .aload 1, .invokeinterface 2752 1, .invokeinterface 2818 3, .if_icmp .gt 2, .iload 3, .aload 1, .getfield 44035, .iload 4, .iaload, .aload 0, .iload 2, .iload 4, .invokeinterface 2820 3, .iadd, .invokeinterface 3841 2, .istore 3, .iinc 4 1, .goto 1]
def b2819_2 : List Instr := [.iload 3, .jsr 0]
/-- TimberHouse$LathePieces$Tool.lift(LTimberHouse$LathePieces$Piece;I)I -/
def m2819 : pm_M := (fun j => [b2819_0, b2819_1, b2819_2].getD j [], fun _ => [], 44, 5)
def b2820_0 : List Instr := [.aload 0, .getfield 45067, .iload 1, .iload 2, .if_icmp .ge 1, .iload 2, .iload 1, .isub, .goto 2]
def b2820_1 : List Instr := [.iload 1, .iload 2, .isub, .goto_w 2]
def b2820_2 : List Instr := [.iaload, .jsr 0]
/-- TimberHouse$LathePieces$Tool.height(II)I -/
def m2820 : pm_M := (fun j => [b2820_0, b2820_1, b2820_2].getD j [], fun _ => [], 44, 3)
def b2821_0 : List Instr := [.aload 0, .f2i, .aload 0, .iload 1, .putfield 45056, .aload 0, .iload 1, .sipush 1, .iadd, .newarray .int, .putfield 45067, .sipush 0, .istore 2, .goto_w 1]
def b2821_1 : List Instr := [.iload 2, .iload 1, .if_icmp .gt 2, .aload 0, .getfield 45067, .iload 2, .iload 1, .invokeinterface 653 1, .iload 2, .invokeinterface 653 1, .isub, .invokeinterface 655 1, .iastore, .iinc 2 1, .goto 1]
def b2821_2 : List Instr := [.return_]
/-- TimberHouse$LathePieces$Tool.<init>(I)V -/
def m2821 : pm_M := (fun j => [b2821_0, b2821_1, b2821_2].getD j [], fun _ => [], 44, 3)
def b2880_0 : List Instr := [.aload 0, .f2i, .lload 1, .bipush 0, .lcmp, .ifCond .ge 1, .lload 1, .lneg, .goto 2]
def b2880_1 : List Instr := [.lload 1, .goto_w 2]
def b2880_2 : List Instr := [.lload 3, .invokeinterface 2881 2, .lstore 5, .aload 0, .lload 1, .lload 5, .ldiv, .putfield 46081, .aload 0, .lload 3, .lload 5, .ldiv, .putfield 46089, .return_]
/-- TimberHouse$LathePieces$Fraction.<init>(JJ)V -/
def m2880 : pm_M := (fun j => [b2880_0, b2880_1, b2880_2].getD j [], fun _ => [], 45, 7)
def b2881_0 : List Instr := [.lload 0, .lstore 4, .lload 2, .lstore 6, .goto_w 1]
def b2881_1 : List Instr := [.lload 6, .bipush 0, .lcmp, .ifCond .eq 2, .lload 4, .lload 6, .lrem, .lstore 8, .lload 6, .lstore 4, .lload 8, .lstore 6, .goto 1]
def b2881_2 : List Instr := [.lload 4, .lreturn]
/-- TimberHouse$LathePieces$Fraction.divisor(JJ)J -/
def m2881 : pm_M := (fun j => [b2881_0, b2881_1, b2881_2].getD j [], fun _ => [], 0, 10)
def b2882_0 : List Instr := [.new 45, .dup, .aload 0, .getfield 46081, .bipush 2, .aload 0, .getfield 46089, .lmul, .invokeinterface 2880 3, .areturn]
/-- TimberHouse$LathePieces$Fraction.half()LTimberHouse$LathePieces$Fraction; -/
def m2882 : pm_M := (fun j => [b2882_0].getD j [], fun _ => [], 45, 1)
def b2883_0 : List Instr := [.iload 1, .ifCond .ne 1, .aload 0, .getfield 46081, .goto 2]
def b2883_1 : List Instr := [.aload 0, .getfield 46089, .goto_w 2]
def b2883_2 : List Instr := [.lreturn]
/-- TimberHouse$LathePieces$Fraction.part(I)J -/
def m2883 : pm_M := (fun j => [b2883_0, b2883_1, b2883_2].getD j [], fun _ => [], 45, 2)
def b2884_0 : List Instr := [.new 45, .dup, .aload 0, .getfield 46081, .aload 1, .getfield 46089, .lmul, .aload 1, .getfield 46081, .aload 0, .getfield 46089, .lmul, .lsub, .aload 0, .getfield 46089, .aload 1, .getfield 46089, .lmul, .invokeinterface 2880 3, .areturn]
/-- TimberHouse$LathePieces$Fraction.less(LTimberHouse$LathePieces$Fraction;)LTimberHouse$LathePieces$Fraction; -/
def m2884 : pm_M := (fun j => [b2884_0].getD j [], fun _ => [], 45, 2)
def b2944_0 : List Instr := [.aload 0, .f2i, .aload 0, .lload 1, .putfield 47105, .aload 0, .lload 3, .putfield 47113, .aload 0, .lload 5, .lload 1, .lsub, .putfield 47121, .aload 0, .lload 7, .lload 3, .lsub, .putfield 47129, .aload 0, .lload 9, .putfield 47137, .return_]
/-- TimberHouse$NailRules$Member.<init>(JJJJJ)V -/
def m2944 : pm_M := (fun j => [b2944_0].getD j [], fun _ => [], 46, 11)
def b2945_0 : List Instr := [.aload 0, .getfield 47121, .aload 0, .getfield 47121, .lmul, .aload 0, .getfield 47129, .aload 0, .getfield 47129, .lmul, .ladd, .lstore 5, .lload 1, .aload 0, .getfield 47105, .lsub, .aload 0, .getfield 47121, .lmul, .lload 3, .aload 0, .getfield 47113, .lsub, .aload 0, .getfield 47129, .lmul, .ladd, .lstore 7, .bipush 2, .lload 1, .aload 0, .getfield 47105, .lsub, .aload 0, .getfield 47129, .lmul, .lload 3, .aload 0, .getfield 47113, .lsub, .aload 0, .getfield 47121, .lmul, .lsub, .lmul, .lstore 9, .lload 7, .bipush 0, .lcmp, .ifCond .lt 1, .lload 7, .lload 5, .lcmp, .ifCond .gt 1, .lload 9, .lload 9, .lmul, .aload 0, .getfield 47137, .aload 0, .getfield 47137, .lmul, .lload 5, .lmul, .lcmp, .ifCond .gt 1, .sipush 1, .goto 2]
def b2945_1 : List Instr := [.sipush 0, .goto_w 2]
def b2945_2 : List Instr := [.jsr 2]
/-- TimberHouse$NailRules$Member.has(JJ)Z -/
def m2945 : pm_M := (fun j => [b2945_0, b2945_1, b2945_2].getD j [], fun _ => [], 46, 11)
def b3008_0 : List Instr := [.aload 0, .getfield 48128, .aload 0, .getfield 48136, .imul, .jsr 0]
/-- TimberHouse$SheetTrees$Sheet.area()I -/
def m3008 : pm_M := (fun j => [b3008_0].getD j [], fun _ => [], 47, 1)
def b3009_0 : List Instr := [.aload 0, .f2i, .aload 0, .iload 1, .putfield 48128, .aload 0, .iload 2, .putfield 48136, .aload 0, .iload 3, .putfield 48144, .aload 0, .iload 4, .putfield 48152, .return_]
/-- TimberHouse$SheetTrees$Sheet.<init>(IIII)V -/
def m3009 : pm_M := (fun j => [b3009_0].getD j [], fun _ => [], 47, 5)
def b3072_0 : List Instr := [.aload 0, .f2i, .aload 0, .iload 1, .putfield 49152, .aload 0, .iload 2, .putfield 49160, .aload 0, .iload 3, .putfield 49176, .aload 0, .iload 4, .putfield 49170, .return_]
/-- TimberHouse$SheetTrees$Part.<init>(IIIZ)V -/
def m3072 : pm_M := (fun j => [b3072_0].getD j [], fun _ => [], 48, 5)
def b3073_0 : List Instr := [.aload 0, .getfield 49152, .iload 1, .if_icmp .ne 1, .aload 0, .getfield 49160, .iload 2, .if_icmp .eq 2, .goto_w 1]
def b3073_1 : List Instr := [.aload 0, .getfield 49170, .ifCond .eq 3, .aload 0, .getfield 49152, .iload 2, .if_icmp .ne 3, .aload 0, .getfield 49160, .iload 1, .if_icmp .ne 3, .goto_w 2]
def b3073_2 : List Instr := [.sipush 1, .goto 4]
def b3073_3 : List Instr := [.sipush 0, .goto_w 4]
def b3073_4 : List Instr := [.jsr 2]
/-- TimberHouse$SheetTrees$Part.is(II)Z -/
def m3073 : pm_M := (fun j => [b3073_0, b3073_1, b3073_2, b3073_3, b3073_4].getD j [], fun _ => [], 48, 3)
def b3074_0 : List Instr := [.aload 0, .getfield 49152, .aload 0, .getfield 49160, .imul, .jsr 0]
/-- TimberHouse$SheetTrees$Part.area()I -/
def m3074 : pm_M := (fun j => [b3074_0].getD j [], fun _ => [], 48, 1)
def b3136_0 : List Instr := [.aload 0, .f2i, .return_]
/-- TimberHouse$RouterPaths$Statement.<init>()V -/
def m3136 : pm_M := (fun j => [b3136_0].getD j [], fun _ => [], 49, 1)
def b3200_0 : List Instr := [.aload 0, .invokeinterface 3136 1, .aload 0, .iload 1, .putfield 51200, .return_]
/-- TimberHouse$RouterPaths$Change.<init>(I)V -/
def m3200 : pm_M := (fun j => [b3200_0].getD j [], fun _ => [], 50, 2)
def b3201_0 : List Instr := [.aload 1, .aload 0, .getfield 51200, .invokeinterface 1218 2, .return_]
/-- TimberHouse$RouterPaths$Change.drive(LTimberHouse$RouterPaths$Machine;)V -/
def m3201 : pm_M := (fun j => [b3201_0].getD j [], fun _ => [], 50, 2)
def b3264_0 : List Instr := [.aload 0, .invokeinterface 3136 1, .aload 0, .sipush 3, .newarray .int, .dup, .sipush 0, .sipush (-1), .iastore, .dup, .sipush 1, .sipush (-1), .iastore, .dup, .sipush 2, .sipush (-1), .iastore, .putfield 52235, .aload 0, .iload 1, .putfield 52226, .return_]
/-- TimberHouse$RouterPaths$Move.<init>(Z)V -/
def m3264 : pm_M := (fun j => [b3264_0].getD j [], fun _ => [], 51, 2)
def b3265_0 : List Instr := [.aload 1, .aload 0, .getfield 52226, .aload 0, .getfield 52235, .sipush 0, .iaload, .aload 0, .getfield 52235, .sipush 1, .iaload, .aload 0, .getfield 52235, .sipush 2, .iaload, .invokeinterface 1219 5, .return_]
/-- TimberHouse$RouterPaths$Move.drive(LTimberHouse$RouterPaths$Machine;)V -/
def m3265 : pm_M := (fun j => [b3265_0].getD j [], fun _ => [], 51, 2)
def b3328_0 : List Instr := [.aload 0, .f2i, .aload 0, .new 63, .dup, .invokeinterface 4032 1, .putfield 53259, .aload 0, .iload 1, .putfield 53248, .return_]
/-- TimberHouse$WorkPlans$Machine.<init>(I)V -/
def m3328 : pm_M := (fun j => [b3328_0].getD j [], fun _ => [], 52, 2)
def b3329_0 : List Instr := [.sipush 0, .istore 3, .goto_w 1]
def b3329_1 : List Instr := [.iload 3, .aload 0, .getfield 53259, .invokeinterface 4033 1, .if_icmp .ge 3, .aload 0, .getfield 53259, .iload 3, .invokeinterface 4034 2, .checkcast 53, .iload 1, .iload 2, .invokeinterface 3393 3, .ifCond .eq 2, .aload 0, .getfield 53259, .iload 3, .invokeinterface 4034 2, .checkcast 53, .getfield 54280, .jsr 0]
def b3329_2 : List Instr := [.iinc 3 1, .goto 1]
def b3329_3 : List Instr := [.sipush (-1), .jsr 0]
/-- TimberHouse$WorkPlans$Machine.outTo(II)I -/
def m3329 : pm_M := (fun j => [b3329_0, b3329_1, b3329_2, b3329_3].getD j [], fun _ => [], 52, 4)
def b3392_0 : List Instr := [.aload 0, .f2i, .aload 0, .iload 1, .putfield 54272, .aload 0, .iload 2, .putfield 54280, .return_]
/-- TimberHouse$WorkPlans$Span.<init>(II)V -/
def m3392 : pm_M := (fun j => [b3392_0].getD j [], fun _ => [], 53, 3)
def b3393_0 : List Instr := [.iload 1, .aload 0, .getfield 54280, .if_icmp .ge 1, .aload 0, .getfield 54272, .iload 1, .iload 2, .iadd, .if_icmp .ge 1, .sipush 1, .goto 2]
def b3393_1 : List Instr := [.sipush 0, .goto_w 2]
def b3393_2 : List Instr := [.jsr 2]
/-- TimberHouse$WorkPlans$Span.meets(II)Z -/
def m3393 : pm_M := (fun j => [b3393_0, b3393_1, b3393_2].getD j [], fun _ => [], 53, 3)
def b3456_0 : List Instr := [.aload 0, .f2i, .aload 0, .new 63, .dup, .invokeinterface 4032 1, .putfield 55315, .aload 0, .iload 1, .putfield 55296, .aload 0, .iload 2, .putfield 55304, .return_]
/-- TimberHouse$WorkPlans$Job.<init>(II)V -/
def m3456 : pm_M := (fun j => [b3456_0].getD j [], fun _ => [], 54, 3)
def b3457_0 : List Instr := [.iload 1, .aload 0, .getfield 55296, .if_icmp .le 1, .aload 0, .getfield 55304, .iload 1, .aload 0, .getfield 55296, .isub, .imul, .goto 2]
def b3457_1 : List Instr := [.sipush 0, .goto_w 2]
def b3457_2 : List Instr := [.jsr 0]
/-- TimberHouse$WorkPlans$Job.cost(I)I -/
def m3457 : pm_M := (fun j => [b3457_0, b3457_1, b3457_2].getD j [], fun _ => [], 54, 2)
def b3520_0 : List Instr := [.aload 0, .f2i, .aload 0, .iload 1, .putfield 56320, .aload 0, .iload 2, .putfield 56328, .aload 0, .iload 3, .putfield 56336, .aload 0, .iload 4, .putfield 56344, .return_]
/-- TimberHouse$WorkPlans$Step.<init>(IIII)V -/
def m3520 : pm_M := (fun j => [b3520_0].getD j [], fun _ => [], 55, 5)
def b3584_0 : List Instr := [.aload 0, .f2i, .aload 0, .iload 2, .newarray .int, .putfield 57347, .sipush 0, .istore 4, .goto_w 1]
def b3584_1 : List Instr := [.iload 4, .iload 2, .if_icmp .ge 2, .aload 0, .getfield 57347, .iload 4, .aload 1, .iload 4, .iaload, .iastore, .iinc 4 1, .goto 1]
def b3584_2 : List Instr := [.aload 0, .iload 3, .putfield 57356, .return_]
/-- TimberHouse$PriceLines$Line.<init>([IIC)V -/
def m3584 : pm_M := (fun j => [b3584_0, b3584_1, b3584_2].getD j [], fun _ => [], 56, 5)
def b3648_0 : List Instr := [.aload 0, .f2i, .aload 0, .iload 1, .putfield 58368, .aload 0, .lload 2, .putfield 58377, .aload 0, .iload 4, .putfield 58384, .aload 0, .iload 5, .putfield 58392, .aload 0, .lload 6, .putfield 58401, .aload 0, .lload 8, .putfield 58409, .return_]
/-- TimberHouse$ShopDesks$Telling.<init>(IJIIJJ)V -/
def m3648 : pm_M := (fun j => [b3648_0].getD j [], fun _ => [], 57, 10)
def b3649_0 : List Instr := [.aload 0, .getfield 58409, .aload 1, .getfield 58409, .lcmp, .ifCond .eq 2, .aload 0, .getfield 58409, .aload 1, .getfield 58409, .lcmp, .ifCond .le 1, .sipush 1, .goto 6]
def b3649_1 : List Instr := [.sipush 0, .goto 6]
def b3649_2 : List Instr := [.aload 0, .getfield 58368, .aload 1, .getfield 58368, .if_icmp .eq 4, .aload 0, .getfield 58368, .aload 1, .getfield 58368, .if_icmp .le 3, .sipush 1, .goto 6]
def b3649_3 : List Instr := [.sipush 0, .goto 6]
def b3649_4 : List Instr := [.aload 0, .getfield 58377, .aload 1, .getfield 58377, .lcmp, .ifCond .le 5, .sipush 1, .goto 6]
def b3649_5 : List Instr := [.sipush 0, .goto_w 6]
def b3649_6 : List Instr := [.jsr 2]
/-- TimberHouse$ShopDesks$Telling.isLater(LTimberHouse$ShopDesks$Telling;)Z -/
def m3649 : pm_M := (fun j => [b3649_0, b3649_1, b3649_2, b3649_3, b3649_4, b3649_5, b3649_6].getD j [], fun _ => [], 57, 2)
def b3712_0 : List Instr := [.aload 0, .f2i, .aload 0, .sipush 300, .newarray .short, .putfield 59403, .aload 0, .sipush 5, .newarray .long, .putfield 59411, .aload 0, .sipush (-1), .putfield 59424, .aload 0, .aload 1, .putfield 59395, .return_]
/-- TimberHouse$ShopDesks$Bag.<init>([LTimberHouse$ShopDesks$Telling;)V -/
def m3712 : pm_M := (fun j => [b3712_0].getD j [], fun _ => [], 58, 2)
def b3713_0 : List Instr := [.aload 0, .getfield 59411, .iload 1, .sipush 6, .ishr, .laload, .iload 1, .lushr, .bipush 1, .land, .bipush 1, .lcmp, .ifCond .ne 1, .sipush 1, .goto 2]
def b3713_1 : List Instr := [.sipush 0, .goto_w 2]
def b3713_2 : List Instr := [.jsr 2]
/-- TimberHouse$ShopDesks$Bag.has(I)Z -/
def m3713 : pm_M := (fun j => [b3713_0, b3713_1, b3713_2].getD j [], fun _ => [], 58, 2)
def b3714_0 : List Instr := [.aload 0, .iload 1, .invokeinterface 3713 2, .ifCond .ne 1, .sipush 1, .goto 2]
def b3714_1 : List Instr := [.sipush 0, .goto_w 2]
def b3714_2 : List Instr := [.istore 2, .iload 2, .ifCond .eq 3, .aload 0, .getfield 59411, .iload 1, .sipush 6, .ishr, .dup2, .laload, .bipush 1, .iload 1, .lshl, .lor, .lastore, .aload 0, .getfield 59403, .aload 0, .dup, .getfield 59416, .dup_x1, .sipush 1, .iadd, .putfield 59416, .iload 1, .i2s, .sastore, .goto_w 3]
def b3714_3 : List Instr := [.iload 2, .jsr 2]
/-- TimberHouse$ShopDesks$Bag.add(I)Z -/
def m3714 : pm_M := (fun j => [b3714_0, b3714_1, b3714_2, b3714_3].getD j [], fun _ => [], 58, 3)
def b3715_0 : List Instr := [.iload 3, .ifCond .ne 1, .aload 0, .iload 1, .iload 2, .lload 4, .invokeinterface 3716 4, .lreturn]
def b3715_1 : List Instr := [.iload 3, .sipush 2, .if_icmp .ne 2, .aload 0, .iload 1, .iload 2, .lload 4, .invokeinterface 3717 4, .ifCond .eq 2, .bipush 0, .lreturn]
def b3715_2 : List Instr := [.iload 3, .sipush 2, .if_icmp .ne 3, .aload 0, .iload 1, .iload 2, .lload 4, .invokeinterface 3720 4, .ifCond .eq 3, .sipush 1, .goto 4]
def b3715_3 : List Instr := [.sipush 0, .goto_w 4]
def b3715_4 : List Instr := [.istore 6, .aload 0, .iload 1, .iload 2, .iload 6, .ifCond .eq 5, .sipush 3, .goto 6]
def b3715_5 : List Instr := [.iload 3, .goto_w 6]
def b3715_6 : List Instr := [.lload 4, .invokeinterface 3719 5, .astore 7, .aload 7, .ifnonnull 7, .bipush 0, .goto 8]
def b3715_7 : List Instr := [.aload 7, .getfield 58401, .goto_w 8]
def b3715_8 : List Instr := [.lreturn]
/-- TimberHouse$ShopDesks$Bag.known(IIIJ)J -/
def m3715 : pm_M := (fun j => [b3715_0, b3715_1, b3715_2, b3715_3, b3715_4, b3715_5, b3715_6, b3715_7, b3715_8].getD j [], fun _ => [], 58, 8)
def b3716_0 : List Instr := [.bipush 0, .lstore 5, .sipush 0, .istore 7, .goto_w 1]
def b3716_1 : List Instr := [.iload 7, .iload 1, .if_icmp .ge 4, .aload 0, .getfield 59395, .aload 0, .getfield 59403, .iload 7, .saload, .aaload, .astore 8, .lload 5, .aload 8, .getfield 58384, .iload 2, .if_icmp .ne 2, .aload 8, .getfield 58392, .ifCond .ne 2, .aload 8, .getfield 58409, .lload 3, .lcmp, .ifCond .gt 2, .aload 8, .getfield 58401, .goto 3]
def b3716_2 : List Instr := [.bipush 0, .goto_w 3]
def b3716_3 : List Instr := [.ladd, .lstore 5, .iinc 7 1, .goto 1]
def b3716_4 : List Instr := [.lload 5, .lreturn]
/-- TimberHouse$ShopDesks$Bag.sum(IIJ)J -/
def m3716 : pm_M := (fun j => [b3716_0, b3716_1, b3716_2, b3716_3, b3716_4].getD j [], fun _ => [], 58, 9)
def b3717_0 : List Instr := [.aload 0, .iload 1, .iload 2, .lload 3, .invokeinterface 3718 4, .ifCond .eq 1, .aload 0, .iload 1, .iload 2, .lload 3, .invokeinterface 3720 4, .ifCond .ne 1, .sipush 1, .goto 2]
def b3717_1 : List Instr := [.sipush 0, .goto_w 2]
def b3717_2 : List Instr := [.jsr 2]
/-- TimberHouse$ShopDesks$Bag.conflicts(IIJ)Z -/
def m3717 : pm_M := (fun j => [b3717_0, b3717_1, b3717_2].getD j [], fun _ => [], 58, 5)
def b3718_0 : List Instr := [.aload 0, .iload 1, .iload 2, .sipush 2, .lload 3, .invokeinterface 3719 5, .astore 5, .sipush 0, .istore 6, .sipush 0, .istore 7, .goto_w 1]
def b3718_1 : List Instr := [.iload 7, .iload 1, .if_icmp .ge 4, .aload 5, .ifnull 4, .aload 0, .getfield 59395, .aload 0, .getfield 59403, .iload 7, .saload, .aaload, .astore 8, .iload 6, .aload 8, .getfield 58384, .iload 2, .if_icmp .ne 2, .aload 8, .getfield 58392, .sipush 2, .if_icmp .ne 2, .aload 8, .getfield 58409, .lload 3, .lcmp, .ifCond .gt 2, .aload 8, .getfield 58401, .aload 5, .getfield 58401, .lcmp, .ifCond .eq 2, .sipush 1, .goto 3]
def b3718_2 : List Instr := [.sipush 0, .goto_w 3]
def b3718_3 : List Instr := [.ior, .istore 6, .iinc 7 1, .goto 1]
def b3718_4 : List Instr := [.iload 6, .jsr 2]
/-- TimberHouse$ShopDesks$Bag.isUnlike(IIJ)Z -/
def m3718 : pm_M := (fun j => [b3718_0, b3718_1, b3718_2, b3718_3, b3718_4].getD j [], fun _ => [], 58, 9)
def b3719_0 : List Instr := [.aconst_null, .astore 6, .sipush 0, .istore 7, .goto_w 1]
def b3719_1 : List Instr := [.iload 7, .iload 1, .if_icmp .ge 4, .aload 0, .getfield 59395, .aload 0, .getfield 59403, .iload 7, .saload, .aaload, .astore 8, .aload 8, .getfield 58384, .iload 2, .if_icmp .ne 3, .aload 8, .getfield 58392, .iload 3, .if_icmp .ne 3, .aload 8, .getfield 58409, .lload 4, .lcmp, .ifCond .gt 3, .aload 6, .ifnull 2, .aload 8, .aload 6, .invokeinterface 3649 2, .ifCond .eq 3, .goto_w 2]
def b3719_2 : List Instr := [.aload 8, .astore 6, .goto_w 3]
def b3719_3 : List Instr := [.iinc 7 1, .goto 1]
def b3719_4 : List Instr := [.aload 6, .areturn]
/-- TimberHouse$ShopDesks$Bag.latest(IIIJ)LTimberHouse$ShopDesks$Telling; -/
def m3719 : pm_M := (fun j => [b3719_0, b3719_1, b3719_2, b3719_3, b3719_4].getD j [], fun _ => [], 58, 9)
def b3720_0 : List Instr := [.aload 0, .iload 1, .iload 2, .sipush 3, .lload 3, .invokeinterface 3719 5, .astore 5, .aload 0, .iload 1, .iload 2, .sipush 2, .lload 3, .invokeinterface 3719 5, .astore 6, .aload 5, .ifnull 2, .aload 6, .ifnull 1, .aload 5, .getfield 58409, .aload 6, .getfield 58409, .lcmp, .ifCond .lt 2, .goto_w 1]
def b3720_1 : List Instr := [.sipush 1, .goto 3]
def b3720_2 : List Instr := [.sipush 0, .goto_w 3]
def b3720_3 : List Instr := [.jsr 2]
/-- TimberHouse$ShopDesks$Bag.isSettled(IIJ)Z -/
def m3720 : pm_M := (fun j => [b3720_0, b3720_1, b3720_2, b3720_3].getD j [], fun _ => [], 58, 7)
def b3776_0 : List Instr := [.aload 0, .f2i, .aload 0, .sipush 6, .newarray .int, .putfield 60427, .aload 0, .sipush 6, .newarray .long, .putfield 60435, .aload 0, .iload 1, .putfield 60416, .return_]
/-- TimberHouse$ShopDesks$Entry.<init>(I)V -/
def m3776 : pm_M := (fun j => [b3776_0].getD j [], fun _ => [], 59, 2)
def b3777_0 : List Instr := [.aload 0, .getfield 60427, .aload 0, .getfield 60440, .iload 1, .iastore, .aload 0, .getfield 60435, .aload 0, .dup, .getfield 60440, .dup_x1, .sipush 1, .iadd, .putfield 60440, .lload 2, .lastore, .return_]
/-- TimberHouse$ShopDesks$Entry.add(IJ)V -/
def m3777 : pm_M := (fun j => [b3777_0].getD j [], fun _ => [], 59, 4)
def b3778_0 : List Instr := [.bipush 0, .lstore 1, .sipush 0, .istore 3, .goto_w 1]
def b3778_1 : List Instr := [.iload 3, .aload 0, .getfield 60440, .if_icmp .ge 2, .lload 1, .aload 0, .getfield 60435, .iload 3, .laload, .ladd, .lstore 1, .iinc 3 1, .goto 1]
def b3778_2 : List Instr := [.lload 1, .lreturn]
/-- TimberHouse$ShopDesks$Entry.sum()J -/
def m3778 : pm_M := (fun j => [b3778_0, b3778_1, b3778_2].getD j [], fun _ => [], 59, 4)
def b3840_0 : List Instr := [.iload 0, .iload 1, .if_icmp .gt 1, .iload 0, .goto 2]
def b3840_1 : List Instr := [.iload 1, .goto_w 2]
def b3840_2 : List Instr := [.jsr 0]
/-- java/lang/Math.min(II)I -/
def m3840 : pm_M := (fun j => [b3840_0, b3840_1, b3840_2].getD j [], fun _ => [], 0, 2)
def b3841_0 : List Instr := [.iload 0, .iload 1, .if_icmp .lt 1, .iload 0, .goto 2]
def b3841_1 : List Instr := [.iload 1, .goto_w 2]
def b3841_2 : List Instr := [.jsr 0]
/-- java/lang/Math.max(II)I -/
def m3841 : pm_M := (fun j => [b3841_0, b3841_1, b3841_2].getD j [], fun _ => [], 0, 2)
def b3842_0 : List Instr := [.lload 0, .lload 2, .lcmp, .ifCond .gt 1, .lload 0, .goto 2]
def b3842_1 : List Instr := [.lload 2, .goto_w 2]
def b3842_2 : List Instr := [.lreturn]
/-- java/lang/Math.min(JJ)J -/
def m3842 : pm_M := (fun j => [b3842_0, b3842_1, b3842_2].getD j [], fun _ => [], 0, 4)
def b3843_0 : List Instr := [.lload 0, .lload 2, .lcmp, .ifCond .lt 1, .lload 0, .goto 2]
def b3843_1 : List Instr := [.lload 2, .goto_w 2]
def b3843_2 : List Instr := [.lreturn]
/-- java/lang/Math.max(JJ)J -/
def m3843 : pm_M := (fun j => [b3843_0, b3843_1, b3843_2].getD j [], fun _ => [], 0, 4)
def b3844_0 : List Instr := [.iload 0, .ifCond .ge 1, .iload 0, .ineg, .goto 2]
def b3844_1 : List Instr := [.iload 0, .goto_w 2]
def b3844_2 : List Instr := [.jsr 0]
/-- java/lang/Math.abs(I)I -/
def m3844 : pm_M := (fun j => [b3844_0, b3844_1, b3844_2].getD j [], fun _ => [], 0, 1)
def b3845_0 : List Instr := [.iload 0, .iload 1, .idiv, .istore 2, .iload 0, .iload 1, .ixor, .ifCond .ge 1, .iload 2, .iload 1, .imul, .iload 0, .if_icmp .eq 1, .iload 2, .sipush 1, .isub, .jsr 0]
def b3845_1 : List Instr := [.iload 2, .jsr 0]
/-- java/lang/Math.floorDiv(II)I -/
def m3845 : pm_M := (fun j => [b3845_0, b3845_1].getD j [], fun _ => [], 0, 3)
def b3846_0 : List Instr := [.lload 0, .lload 2, .ldiv, .lstore 4, .lload 0, .lload 2, .lxor, .bipush 0, .lcmp, .ifCond .ge 1, .lload 4, .lload 2, .lmul, .lload 0, .lcmp, .ifCond .eq 1, .lload 4, .bipush 1, .lsub, .lreturn]
def b3846_1 : List Instr := [.lload 4, .lreturn]
/-- java/lang/Math.floorDiv(JJ)J -/
def m3846 : pm_M := (fun j => [b3846_0, b3846_1].getD j [], fun _ => [], 0, 6)
def b3904_0 : List Instr := [.aload 0, .f2i, .return_]
/-- java/util/AbstractCollection.<init>()V -/
def m3904 : pm_M := (fun j => [b3904_0].getD j [], fun _ => [], 61, 1)
def b3968_0 : List Instr := [.aload 0, .invokeinterface 3904 1, .aload 0, .sipush 0, .putfield 63488, .return_]
/-- java/util/AbstractList.<init>()V -/
def m3968 : pm_M := (fun j => [b3968_0].getD j [], fun _ => [], 62, 1)
def b4032_0 : List Instr := [.aload 0, .invokeinterface 3968 1, .aload 0, .getstatic 0, .putfield 64523, .return_]
/-- java/util/ArrayList.<init>()V -/
def m4032 : pm_M := (fun j => [b4032_0].getD j [], fun _ => [], 63, 1)
def b4033_0 : List Instr := [.aload 0, .getfield 64528, .jsr 0]
/-- java/util/ArrayList.size()I -/
def m4033 : pm_M := (fun j => [b4033_0].getD j [], fun _ => [], 63, 1)
def b4034_0 : List Instr := [.iload 1, .aload 0, .getfield 64528, .invokeinterface 4736 2, .pop, .aload 0, .iload 1, .invokeinterface 4035 2, .areturn]
/-- java/util/ArrayList.get(I)Ljava/lang/Object; -/
def m4034 : pm_M := (fun j => [b4034_0].getD j [], fun _ => [], 63, 2)
def b4035_0 : List Instr := [.aload 0, .getfield 64523, .iload 1, .aaload, .areturn]
/-- java/util/ArrayList.elementData(I)Ljava/lang/Object; -/
def m4035 : pm_M := (fun j => [b4035_0].getD j [], fun _ => [], 63, 2)
def b4036_0 : List Instr := [.aload 0, .dup, .getfield 64512, .sipush 1, .iadd, .putfield 64512, .aload 0, .aload 1, .aload 0, .getfield 64523, .aload 0, .getfield 64528, .invokeinterface 4037 4, .sipush 1, .jsr 2]
/-- java/util/ArrayList.add(Ljava/lang/Object;)Z -/
def m4036 : pm_M := (fun j => [b4036_0].getD j [], fun _ => [], 63, 2)
def b4037_0 : List Instr := [.iload 3, .aload 2, .arraylength, .if_icmp .ne 1, .aload 0, .invokeinterface 4038 1, .astore 2, .goto_w 1]
def b4037_1 : List Instr := [.aload 2, .iload 3, .aload 1, .aastore, .aload 0, .iload 3, .sipush 1, .iadd, .putfield 64528, .return_]
/-- java/util/ArrayList.add(Ljava/lang/Object;[Ljava/lang/Object;I)V -/
def m4037 : pm_M := (fun j => [b4037_0, b4037_1].getD j [], fun _ => [], 63, 4)
def b4038_0 : List Instr := [.aload 0, .aload 0, .getfield 64528, .sipush 1, .iadd, .invokeinterface 4039 2, .areturn]
/-- java/util/ArrayList.grow()[Ljava/lang/Object; -/
def m4038 : pm_M := (fun j => [b4038_0].getD j [], fun _ => [], 63, 1)
def b4039_0 : List Instr := [.aload 0, .getfield 64523, .arraylength, .istore 2, .iload 2, .ifCond .gt 1, .aload 0, .getfield 64523, .getstatic 0, .if_acmp .eq 2, .goto_w 1]
def b4039_1 : List Instr := [.iload 2, .iload 1, .iload 2, .isub, .iload 2, .sipush 1, .ishr, .invokeinterface 4608 3, .istore 3, .aload 0, .aload 0, .getfield 64523, .iload 3, .monitorexit, .dup_x1, .putfield 64523, .areturn]
def b4039_2 : List Instr := [.aload 0, .sipush 10, .iload 1, .invokeinterface 3841 2, .anewarray 0, .dup_x1, .putfield 64523, .areturn]
/-- java/util/ArrayList.grow(I)[Ljava/lang/Object; -/
def m4039 : pm_M := (fun j => [b4039_0, b4039_1, b4039_2].getD j [], fun _ => [], 63, 4)
def b4040_0 : List Instr := [.aload 0, .getfield 64528, .ifCond .ne 1, .sipush 1, .goto 2]
def b4040_1 : List Instr := [.sipush 0, .goto_w 2]
def b4040_2 : List Instr := [.jsr 2]
/-- java/util/ArrayList.isEmpty()Z -/
def m4040 : pm_M := (fun j => [b4040_0, b4040_1, b4040_2].getD j [], fun _ => [], 63, 1)
def b4608_0 : List Instr := [.iload 0, .iload 1, .iload 2, .invokeinterface 3841 2, .iadd, .istore 3, .sipush 0, .iload 3, .if_icmp .ge 1, .iload 3, .sipush 2147483639, .if_icmp .gt 1, .iload 3, .jsr 0]
def b4608_1 : List Instr := [.iload 0, .iload 1, .invokeinterface 4609 2, .jsr 0]
/-- jdk/internal/util/ArraysSupport.newLength(III)I -/
def m4608 : pm_M := (fun j => [b4608_0, b4608_1].getD j [], fun _ => [], 0, 4)
def b4609_0 : List Instr := [.iload 0, .iload 1, .iadd, .istore 2, .iload 2, .ifCond .ge 1, .nop, .dup, .nop, .dup, .nop, .nop, .nop, .iload 0, .nop, .nop, .nop, .iload 1, .nop, .nop, .nop, .nop, .nop, .athrow]
def b4609_1 : List Instr := [.iload 2, .sipush 2147483639, .if_icmp .gt 2, .sipush 2147483639, .jsr 0]
def b4609_2 : List Instr := [.iload 2, .jsr 0]
/-- jdk/internal/util/ArraysSupport.hugeLength(II)I -/
def m4609 : pm_M := (fun j => [b4609_0, b4609_1, b4609_2].getD j [], fun _ => [], 0, 3)
def b4736_0 : List Instr := [.iload 0, .iload 1, .aconst_null, .invokeinterface 4800 3, .jsr 0]
/-- java/util/Objects.checkIndex(II)I -/
def m4736 : pm_M := (fun j => [b4736_0].getD j [], fun _ => [], 0, 2)
def b4800_0 : List Instr := [.iload 0, .ifCond .lt 1, .iload 0, .iload 1, .if_icmp .lt 2, .goto_w 1]
def b4800_1 : List Instr := [.aload 2, .iload 0, .iload 1, .nop, .athrow]
def b4800_2 : List Instr := [.iload 0, .jsr 0]
/-- jdk/internal/util/Preconditions.checkIndex(IILjava/util/function/BiFunction;)I -/
def m4800 : pm_M := (fun j => [b4800_0, b4800_1, b4800_2].getD j [], fun _ => [], 0, 3)
