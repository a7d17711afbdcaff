-- Law_law
theorem ok_Law_law_0 : okb code 0 [(.new 8, 3), (.dup, 1), (.invokespecial 68, 3), (.astore_n 1, 1), (.new 69, 3), (.dup, 1), (.invokespecial 71, 3), (.astore_n 2, 1), (.iconst 1, 1), (.newarray .long, 2), (.astore_n 3, 1), (.iconst 0, 1), (.istore 4, 2)] = true := by decide +kernel
theorem ok_Law_law_23 : okb code 23 [(.iload 4, 2), (.aload_n 0, 1), (.arraylength, 1), (.bipush 6, 2), (.isub, 1), (.if_icmp .gt 1493, 3), (.aload_n 0, 1), (.iload 4, 2), (.iaload, 1), (.bipush 31, 2), (.iand, 1), (.tableswitch 1477 0 28 #[132, 169, 210, 235, 288, 313, 357, 401, 512, 575, 662, 675, 719, 794, 850, 942, 1010, 1085, 1145, 1181, 1205, 1229, 1254, 1291, 1316, 1353, 1378, 1415, 1440], 132)] = true := by decide +kernel
theorem ok_Law_law_172 : okb code 172 [(.aload_n 1, 1), (.aload_n 0, 1), (.iload 4, 2), (.iconst 1, 1), (.iadd, 1), (.iaload, 1), (.aload_n 0, 1), (.iload 4, 2), (.iconst 2, 1), (.iadd, 1), (.iaload, 1), (.invokevirtual 72, 3), (.aload_n 2, 1), (.aload_n 0, 1), (.iload 4, 2), (.iconst 1, 1), (.iadd, 1), (.iaload, 1), (.aload_n 0, 1), (.iload 4, 2), (.iconst 2, 1), (.iadd, 1), (.iaload, 1), (.invokevirtual 75, 3), (.if_icmp .eq 1313, 3), (.iconst 0, 1), (.ireturn, 1)] = true := by decide +kernel
theorem ok_Law_law_209 : okb code 209 [(.aload_n 1, 1), (.aload_n 0, 1), (.iload 4, 2), (.iconst 1, 1), (.iadd, 1), (.iaload, 1), (.ifCond .eq 7, 3), (.iconst 1, 1), (.goto 4, 3)] = true := by decide +kernel
theorem ok_Law_law_223 : okb code 223 [(.iconst 0, 1)] = true := by decide +kernel
theorem ok_Law_law_224 : okb code 224 [(.invokevirtual 76, 3), (.aload_n 2, 1), (.aload_n 0, 1), (.iload 4, 2), (.iconst 1, 1), (.iadd, 1), (.iaload, 1), (.ifCond .eq 7, 3), (.iconst 1, 1), (.goto 4, 3)] = true := by decide +kernel
theorem ok_Law_law_241 : okb code 241 [(.iconst 0, 1)] = true := by decide +kernel
theorem ok_Law_law_242 : okb code 242 [(.invokevirtual 80, 3), (.if_icmp .eq 1272, 3), (.iconst 0, 1), (.ireturn, 1)] = true := by decide +kernel
theorem ok_Law_law_250 : okb code 250 [(.aload_n 1, 1), (.aload_n 0, 1), (.iload 4, 2), (.iconst 1, 1), (.iadd, 1), (.iaload, 1), (.invokevirtual 81, 3), (.aload_n 2, 1), (.aload_n 0, 1), (.iload 4, 2), (.iconst 1, 1), (.iadd, 1), (.iaload, 1), (.invokevirtual 84, 3), (.if_icmp .eq 1247, 3), (.iconst 0, 1), (.ireturn, 1)] = true := by decide +kernel
theorem ok_Law_law_275 : okb code 275 [(.aload_n 1, 1), (.aload_n 0, 1), (.iload 4, 2), (.iconst 1, 1), (.iadd, 1), (.iaload, 1), (.aload_n 0, 1), (.iload 4, 2), (.iconst 2, 1), (.iadd, 1), (.iaload, 1), (.ifCond .eq 7, 3), (.iconst 1, 1), (.goto 4, 3)] = true := by decide +kernel
theorem ok_Law_law_295 : okb code 295 [(.iconst 0, 1)] = true := by decide +kernel
theorem ok_Law_law_296 : okb code 296 [(.invokevirtual 85, 3), (.aload_n 2, 1), (.aload_n 0, 1), (.iload 4, 2), (.iconst 1, 1), (.iadd, 1), (.iaload, 1), (.aload_n 0, 1), (.iload 4, 2), (.iconst 2, 1), (.iadd, 1), (.iaload, 1), (.ifCond .eq 7, 3), (.iconst 1, 1), (.goto 4, 3)] = true := by decide +kernel
theorem ok_Law_law_319 : okb code 319 [(.iconst 0, 1)] = true := by decide +kernel
theorem ok_Law_law_320 : okb code 320 [(.invokevirtual 89, 3), (.if_icmp .eq 1194, 3), (.iconst 0, 1), (.ireturn, 1)] = true := by decide +kernel
theorem ok_Law_law_328 : okb code 328 [(.aload_n 1, 1), (.aload_n 0, 1), (.iload 4, 2), (.iconst 1, 1), (.iadd, 1), (.iaload, 1), (.invokevirtual 90, 3), (.aload_n 2, 1), (.aload_n 0, 1), (.iload 4, 2), (.iconst 1, 1), (.iadd, 1), (.iaload, 1), (.invokevirtual 93, 3), (.if_icmp .eq 1169, 3), (.iconst 0, 1), (.ireturn, 1)] = true := by decide +kernel
theorem ok_Law_law_353 : okb code 353 [(.aload_n 1, 1), (.aload_n 3, 1), (.invokestatic 94, 3), (.istore 5, 2), (.aload_n 2, 1), (.invokevirtual 99, 3), (.istore 6, 2), (.aload_n 2, 1), (.invokevirtual 100, 3), (.iload 5, 2), (.if_icmp .eq 5, 3), (.iconst 0, 1), (.ireturn, 1)] = true := by decide +kernel
theorem ok_Law_law_377 : okb code 377 [(.iload 5, 2), (.ifCond .ne 15, 3), (.aload_n 3, 1), (.iconst 0, 1), (.laload, 1), (.iload 6, 2), (.i2l, 1), (.lcmp, 1), (.ifCond .eq 5, 3), (.iconst 0, 1), (.ireturn, 1)] = true := by decide +kernel
theorem ok_Law_law_394 : okb code 394 [(.goto 1123, 3)] = true := by decide +kernel
theorem ok_Law_law_397 : okb code 397 [(.aload_n 1, 1), (.aload_n 3, 1), (.invokestatic 103, 3), (.istore 5, 2), (.aload_n 2, 1), (.invokevirtual 105, 3), (.istore 6, 2), (.aload_n 2, 1), (.invokevirtual 100, 3), (.iload 5, 2), (.if_icmp .eq 5, 3), (.iconst 0, 1), (.ireturn, 1)] = true := by decide +kernel
theorem ok_Law_law_421 : okb code 421 [(.iload 5, 2), (.ifCond .ne 15, 3), (.aload_n 3, 1), (.iconst 0, 1), (.laload, 1), (.iload 6, 2), (.i2l, 1), (.lcmp, 1), (.ifCond .eq 5, 3), (.iconst 0, 1), (.ireturn, 1)] = true := by decide +kernel
theorem ok_Law_law_438 : okb code 438 [(.goto 1079, 3)] = true := by decide +kernel
theorem ok_Law_law_441 : okb code 441 [(.aload_n 1, 1), (.aload_n 0, 1), (.iload 4, 2), (.iconst 1, 1), (.iadd, 1), (.iaload, 1), (.aload_n 0, 1), (.iload 4, 2), (.iconst 2, 1), (.iadd, 1), (.iaload, 1), (.aload_n 0, 1), (.iload 4, 2), (.iconst 3, 1), (.iadd, 1), (.iaload, 1), (.aload_n 0, 1), (.iload 4, 2), (.iconst 4, 1), (.iadd, 1), (.iaload, 1), (.aload_n 0, 1), (.iload 4, 2), (.iconst 5, 1), (.iadd, 1), (.iaload, 1), (.aload_n 3, 1), (.invokestatic 106, 3), (.istore 5, 2), (.aload_n 2, 1), (.aload_n 0, 1), (.iload 4, 2), (.iconst 1, 1), (.iadd, 1), (.iaload, 1), (.aload_n 0, 1), (.iload 4, 2), (.iconst 2, 1), (.iadd, 1), (.iaload, 1), (.aload_n 0, 1), (.iload 4, 2), (.iconst 3, 1), (.iadd, 1), (.iaload, 1), (.aload_n 0, 1), (.iload 4, 2), (.iconst 4, 1), (.iadd, 1), (.iaload, 1), (.aload_n 0, 1), (.iload 4, 2), (.iconst 5, 1), (.iadd, 1), (.iaload, 1), (.invokevirtual 109, 3), (.istore 6, 2), (.aload_n 2, 1), (.invokevirtual 100, 3), (.iload 5, 2), (.if_icmp .eq 5, 3), (.iconst 0, 1), (.ireturn, 1)] = true := by decide +kernel
theorem ok_Law_law_525 : okb code 525 [(.iload 5, 2), (.ifCond .ne 22, 3), (.aload_n 3, 1), (.iconst 0, 1), (.laload, 1), (.iload 6, 2), (.ifCond .eq 7, 3), (.lconst 1, 1), (.goto 4, 3)] = true := by decide +kernel
theorem ok_Law_law_542 : okb code 542 [(.lconst 0, 1)] = true := by decide +kernel
theorem ok_Law_law_543 : okb code 543 [(.lcmp, 1), (.ifCond .eq 5, 3), (.iconst 0, 1), (.ireturn, 1)] = true := by decide +kernel
theorem ok_Law_law_549 : okb code 549 [(.goto 968, 3)] = true := by decide +kernel
theorem ok_Law_law_552 : okb code 552 [(.aload_n 1, 1), (.aload_n 0, 1), (.iload 4, 2), (.iconst 1, 1), (.iadd, 1), (.iaload, 1), (.aload_n 3, 1), (.invokestatic 110, 3), (.istore 5, 2), (.aload_n 2, 1), (.aload_n 0, 1), (.iload 4, 2), (.iconst 1, 1), (.iadd, 1), (.iaload, 1), (.invokevirtual 113, 3), (.istore 6, 2), (.aload_n 2, 1), (.invokevirtual 100, 3), (.iload 5, 2), (.if_icmp .eq 5, 3), (.iconst 0, 1), (.ireturn, 1)] = true := by decide +kernel
theorem ok_Law_law_588 : okb code 588 [(.iload 5, 2), (.ifCond .ne 22, 3), (.aload_n 3, 1), (.iconst 0, 1), (.laload, 1), (.iload 6, 2), (.ifCond .eq 7, 3), (.lconst 1, 1), (.goto 4, 3)] = true := by decide +kernel
theorem ok_Law_law_605 : okb code 605 [(.lconst 0, 1)] = true := by decide +kernel
theorem ok_Law_law_606 : okb code 606 [(.lcmp, 1), (.ifCond .eq 5, 3), (.iconst 0, 1), (.ireturn, 1)] = true := by decide +kernel
theorem ok_Law_law_612 : okb code 612 [(.goto 905, 3)] = true := by decide +kernel
theorem ok_Law_law_615 : okb code 615 [(.aload_n 1, 1), (.aload_n 0, 1), (.iload 4, 2), (.iconst 1, 1), (.iadd, 1), (.iaload, 1), (.aload_n 0, 1), (.iload 4, 2), (.iconst 2, 1), (.iadd, 1), (.iaload, 1), (.aload_n 0, 1), (.iload 4, 2), (.iconst 3, 1), (.iadd, 1), (.iaload, 1), (.aload_n 3, 1), (.invokestatic 114, 3), (.istore 5, 2), (.aload_n 2, 1), (.aload_n 0, 1), (.iload 4, 2), (.iconst 1, 1), (.iadd, 1), (.iaload, 1), (.aload_n 0, 1), (.iload 4, 2), (.iconst 2, 1), (.iadd, 1), (.iaload, 1), (.aload_n 0, 1), (.iload 4, 2), (.iconst 3, 1), (.iadd, 1), (.iaload, 1), (.invokevirtual 117, 3), (.istore 6, 2), (.aload_n 2, 1), (.invokevirtual 100, 3), (.iload 5, 2), (.if_icmp .eq 5, 3), (.iconst 0, 1), (.ireturn, 1)] = true := by decide +kernel
theorem ok_Law_law_675 : okb code 675 [(.iload 5, 2), (.ifCond .ne 22, 3), (.aload_n 3, 1), (.iconst 0, 1), (.laload, 1), (.iload 6, 2), (.ifCond .eq 7, 3), (.lconst 1, 1), (.goto 4, 3)] = true := by decide +kernel
theorem ok_Law_law_692 : okb code 692 [(.lconst 0, 1)] = true := by decide +kernel
theorem ok_Law_law_693 : okb code 693 [(.lcmp, 1), (.ifCond .eq 5, 3), (.iconst 0, 1), (.ireturn, 1)] = true := by decide +kernel
theorem ok_Law_law_699 : okb code 699 [(.goto 818, 3)] = true := by decide +kernel
theorem ok_Law_law_702 : okb code 702 [(.aload_n 1, 1), (.invokevirtual 118, 3), (.aload_n 2, 1), (.invokevirtual 122, 3), (.if_icmp .eq 807, 3), (.iconst 0, 1), (.ireturn, 1)] = true := by decide +kernel
theorem ok_Law_law_715 : okb code 715 [(.aload_n 1, 1), (.aload_n 3, 1), (.invokestatic 123, 3), (.istore 5, 2), (.aload_n 2, 1), (.invokevirtual 125, 3), (.istore 6, 2), (.aload_n 2, 1), (.invokevirtual 100, 3), (.iload 5, 2), (.if_icmp .eq 5, 3), (.iconst 0, 1), (.ireturn, 1)] = true := by decide +kernel
theorem ok_Law_law_739 : okb code 739 [(.iload 5, 2), (.ifCond .ne 15, 3), (.aload_n 3, 1), (.iconst 0, 1), (.laload, 1), (.iload 6, 2), (.i2l, 1), (.lcmp, 1), (.ifCond .eq 5, 3), (.iconst 0, 1), (.ireturn, 1)] = true := by decide +kernel
theorem ok_Law_law_756 : okb code 756 [(.goto 761, 3)] = true := by decide +kernel
theorem ok_Law_law_759 : okb code 759 [(.aload_n 1, 1), (.aload_n 0, 1), (.iload 4, 2), (.iconst 1, 1), (.iadd, 1), (.iaload, 1), (.aload_n 0, 1), (.iload 4, 2), (.iconst 2, 1), (.iadd, 1), (.iaload, 1), (.aload_n 3, 1), (.invokestatic 126, 3), (.istore 5, 2), (.aload_n 2, 1), (.aload_n 0, 1), (.iload 4, 2), (.iconst 1, 1), (.iadd, 1), (.iaload, 1), (.aload_n 0, 1), (.iload 4, 2), (.iconst 2, 1), (.iadd, 1), (.iaload, 1), (.invokevirtual 129, 3), (.istore 6, 2), (.aload_n 2, 1), (.invokevirtual 100, 3), (.iload 5, 2), (.if_icmp .eq 5, 3), (.iconst 0, 1), (.ireturn, 1)] = true := by decide +kernel
theorem ok_Law_law_807 : okb code 807 [(.iload 5, 2), (.ifCond .ne 22, 3), (.aload_n 3, 1), (.iconst 0, 1), (.laload, 1), (.iload 6, 2), (.ifCond .eq 7, 3), (.lconst 1, 1), (.goto 4, 3)] = true := by decide +kernel
theorem ok_Law_law_824 : okb code 824 [(.lconst 0, 1)] = true := by decide +kernel
theorem ok_Law_law_825 : okb code 825 [(.lcmp, 1), (.ifCond .eq 5, 3), (.iconst 0, 1), (.ireturn, 1)] = true := by decide +kernel
theorem ok_Law_law_831 : okb code 831 [(.goto 686, 3)] = true := by decide +kernel
theorem ok_Law_law_834 : okb code 834 [(.aload_n 1, 1), (.aload_n 0, 1), (.iload 4, 2), (.iconst 1, 1), (.iadd, 1), (.iaload, 1), (.aload_n 3, 1), (.invokestatic 130, 3), (.istore 5, 2), (.aload_n 2, 1), (.aload_n 0, 1), (.iload 4, 2), (.iconst 1, 1), (.iadd, 1), (.iaload, 1), (.invokevirtual 132, 3), (.istore 6, 2), (.aload_n 2, 1), (.invokevirtual 100, 3), (.iload 5, 2), (.if_icmp .eq 5, 3), (.iconst 0, 1), (.ireturn, 1)] = true := by decide +kernel
theorem ok_Law_law_870 : okb code 870 [(.iload 5, 2), (.ifCond .ne 15, 3), (.aload_n 3, 1), (.iconst 0, 1), (.laload, 1), (.iload 6, 2), (.i2l, 1), (.lcmp, 1), (.ifCond .eq 5, 3), (.iconst 0, 1), (.ireturn, 1)] = true := by decide +kernel
theorem ok_Law_law_887 : okb code 887 [(.goto 630, 3)] = true := by decide +kernel
theorem ok_Law_law_890 : okb code 890 [(.aload_n 1, 1), (.aload_n 0, 1), (.iload 4, 2), (.iconst 1, 1), (.iadd, 1), (.iaload, 1), (.aload_n 0, 1), (.iload 4, 2), (.iconst 2, 1), (.iadd, 1), (.iaload, 1), (.aload_n 0, 1), (.iload 4, 2), (.iconst 3, 1), (.iadd, 1), (.iaload, 1), (.aload_n 0, 1), (.iload 4, 2), (.iconst 4, 1), (.iadd, 1), (.iaload, 1), (.aload_n 3, 1), (.invokestatic 133, 3), (.istore 5, 2), (.aload_n 2, 1), (.aload_n 0, 1), (.iload 4, 2), (.iconst 1, 1), (.iadd, 1), (.iaload, 1), (.aload_n 0, 1), (.iload 4, 2), (.iconst 2, 1), (.iadd, 1), (.iaload, 1), (.aload_n 0, 1), (.iload 4, 2), (.iconst 3, 1), (.iadd, 1), (.iaload, 1), (.aload_n 0, 1), (.iload 4, 2), (.iconst 4, 1), (.iadd, 1), (.iaload, 1), (.invokevirtual 136, 3), (.istore 6, 2), (.aload_n 2, 1), (.invokevirtual 100, 3), (.iload 5, 2), (.if_icmp .eq 5, 3), (.iconst 0, 1), (.ireturn, 1)] = true := by decide +kernel
theorem ok_Law_law_962 : okb code 962 [(.iload 5, 2), (.ifCond .ne 15, 3), (.aload_n 3, 1), (.iconst 0, 1), (.laload, 1), (.iload 6, 2), (.i2l, 1), (.lcmp, 1), (.ifCond .eq 5, 3), (.iconst 0, 1), (.ireturn, 1)] = true := by decide +kernel
theorem ok_Law_law_979 : okb code 979 [(.goto 538, 3)] = true := by decide +kernel
theorem ok_Law_law_982 : okb code 982 [(.aload_n 1, 1), (.aload_n 0, 1), (.iload 4, 2), (.iconst 1, 1), (.iadd, 1), (.iaload, 1), (.aload_n 0, 1), (.iload 4, 2), (.iconst 2, 1), (.iadd, 1), (.iaload, 1), (.aload_n 3, 1), (.invokestatic 137, 3), (.istore 5, 2), (.aload_n 2, 1), (.aload_n 0, 1), (.iload 4, 2), (.iconst 1, 1), (.iadd, 1), (.iaload, 1), (.aload_n 0, 1), (.iload 4, 2), (.iconst 2, 1), (.iadd, 1), (.iaload, 1), (.invokevirtual 139, 3), (.istore 6, 2), (.aload_n 2, 1), (.invokevirtual 100, 3), (.iload 5, 2), (.if_icmp .eq 5, 3), (.iconst 0, 1), (.ireturn, 1)] = true := by decide +kernel
theorem ok_Law_law_1030 : okb code 1030 [(.iload 5, 2), (.ifCond .ne 15, 3), (.aload_n 3, 1), (.iconst 0, 1), (.laload, 1), (.iload 6, 2), (.i2l, 1), (.lcmp, 1), (.ifCond .eq 5, 3), (.iconst 0, 1), (.ireturn, 1)] = true := by decide +kernel
theorem ok_Law_law_1047 : okb code 1047 [(.goto 470, 3)] = true := by decide +kernel
theorem ok_Law_law_1050 : okb code 1050 [(.aload_n 1, 1), (.aload_n 0, 1), (.iload 4, 2), (.iconst 1, 1), (.iadd, 1), (.iaload, 1), (.aload_n 0, 1), (.iload 4, 2), (.iconst 2, 1), (.iadd, 1), (.iaload, 1), (.aload_n 3, 1), (.invokestatic 140, 3), (.istore 5, 2), (.aload_n 2, 1), (.aload_n 0, 1), (.iload 4, 2), (.iconst 1, 1), (.iadd, 1), (.iaload, 1), (.aload_n 0, 1), (.iload 4, 2), (.iconst 2, 1), (.iadd, 1), (.iaload, 1), (.invokevirtual 142, 3), (.istore 6, 2), (.aload_n 2, 1), (.invokevirtual 100, 3), (.iload 5, 2), (.if_icmp .eq 5, 3), (.iconst 0, 1), (.ireturn, 1)] = true := by decide +kernel
theorem ok_Law_law_1098 : okb code 1098 [(.iload 5, 2), (.ifCond .ne 22, 3), (.aload_n 3, 1), (.iconst 0, 1), (.laload, 1), (.iload 6, 2), (.ifCond .eq 7, 3), (.lconst 1, 1), (.goto 4, 3)] = true := by decide +kernel
theorem ok_Law_law_1115 : okb code 1115 [(.lconst 0, 1)] = true := by decide +kernel
theorem ok_Law_law_1116 : okb code 1116 [(.lcmp, 1), (.ifCond .eq 5, 3), (.iconst 0, 1), (.ireturn, 1)] = true := by decide +kernel
theorem ok_Law_law_1122 : okb code 1122 [(.goto 395, 3)] = true := by decide +kernel
theorem ok_Law_law_1125 : okb code 1125 [(.aload_n 1, 1), (.aload_n 0, 1), (.iload 4, 2), (.iconst 1, 1), (.iadd, 1), (.iaload, 1), (.aload_n 0, 1), (.iload 4, 2), (.iconst 2, 1), (.iadd, 1), (.iaload, 1), (.aload_n 0, 1), (.iload 4, 2), (.iconst 3, 1), (.iadd, 1), (.iaload, 1), (.invokestatic 143, 3), (.istore 5, 2), (.aload_n 2, 1), (.aload_n 0, 1), (.iload 4, 2), (.iconst 1, 1), (.iadd, 1), (.iaload, 1), (.aload_n 0, 1), (.iload 4, 2), (.iconst 2, 1), (.iadd, 1), (.iaload, 1), (.aload_n 0, 1), (.iload 4, 2), (.iconst 3, 1), (.iadd, 1), (.iaload, 1), (.invokevirtual 146, 3), (.aload_n 2, 1), (.invokevirtual 100, 3), (.iload 5, 2), (.if_icmp .eq 5, 3), (.iconst 0, 1), (.ireturn, 1)] = true := by decide +kernel
theorem ok_Law_law_1182 : okb code 1182 [(.goto 335, 3)] = true := by decide +kernel
theorem ok_Law_law_1185 : okb code 1185 [(.aload_n 1, 1), (.aload_n 0, 1), (.iload 4, 2), (.iconst 1, 1), (.iadd, 1), (.iaload, 1), (.invokestatic 147, 3), (.istore 5, 2), (.aload_n 2, 1), (.aload_n 0, 1), (.iload 4, 2), (.iconst 1, 1), (.iadd, 1), (.iaload, 1), (.invokevirtual 150, 3), (.aload_n 2, 1), (.invokevirtual 100, 3), (.iload 5, 2), (.if_icmp .eq 5, 3), (.iconst 0, 1), (.ireturn, 1)] = true := by decide +kernel
theorem ok_Law_law_1218 : okb code 1218 [(.goto 299, 3)] = true := by decide +kernel
theorem ok_Law_law_1221 : okb code 1221 [(.aload_n 1, 1), (.invokestatic 151, 3), (.istore 5, 2), (.aload_n 2, 1), (.invokevirtual 154, 3), (.aload_n 2, 1), (.invokevirtual 100, 3), (.iload 5, 2), (.if_icmp .eq 5, 3), (.iconst 0, 1), (.ireturn, 1)] = true := by decide +kernel
theorem ok_Law_law_1242 : okb code 1242 [(.goto 275, 3)] = true := by decide +kernel
theorem ok_Law_law_1245 : okb code 1245 [(.aload_n 1, 1), (.invokestatic 155, 3), (.istore 5, 2), (.aload_n 2, 1), (.invokevirtual 157, 3), (.aload_n 2, 1), (.invokevirtual 100, 3), (.iload 5, 2), (.if_icmp .eq 5, 3), (.iconst 0, 1), (.ireturn, 1)] = true := by decide +kernel
theorem ok_Law_law_1266 : okb code 1266 [(.goto 251, 3)] = true := by decide +kernel
theorem ok_Law_law_1269 : okb code 1269 [(.aload_n 1, 1), (.aload_n 0, 1), (.iload 4, 2), (.iconst 1, 1), (.iadd, 1), (.iaload, 1), (.invokevirtual 158, 3), (.aload_n 2, 1), (.aload_n 0, 1), (.iload 4, 2), (.iconst 1, 1), (.iadd, 1), (.iaload, 1), (.invokevirtual 161, 3), (.if_icmp .eq 228, 3), (.iconst 0, 1), (.ireturn, 1)] = true := by decide +kernel
theorem ok_Law_law_1294 : okb code 1294 [(.aload_n 1, 1), (.aload_n 0, 1), (.iload 4, 2), (.iconst 1, 1), (.iadd, 1), (.iaload, 1), (.aload_n 0, 1), (.iload 4, 2), (.iconst 2, 1), (.iadd, 1), (.iaload, 1), (.invokevirtual 162, 3), (.aload_n 2, 1), (.aload_n 0, 1), (.iload 4, 2), (.iconst 1, 1), (.iadd, 1), (.iaload, 1), (.aload_n 0, 1), (.iload 4, 2), (.iconst 2, 1), (.iadd, 1), (.iaload, 1), (.invokevirtual 165, 3), (.if_icmp .eq 191, 3), (.iconst 0, 1), (.ireturn, 1)] = true := by decide +kernel
theorem ok_Law_law_1331 : okb code 1331 [(.aload_n 1, 1), (.aload_n 0, 1), (.iload 4, 2), (.iconst 1, 1), (.iadd, 1), (.iaload, 1), (.invokevirtual 166, 3), (.aload_n 2, 1), (.aload_n 0, 1), (.iload 4, 2), (.iconst 1, 1), (.iadd, 1), (.iaload, 1), (.invokevirtual 169, 3), (.if_icmp .eq 166, 3), (.iconst 0, 1), (.ireturn, 1)] = true := by decide +kernel
theorem ok_Law_law_1356 : okb code 1356 [(.aload_n 1, 1), (.aload_n 0, 1), (.iload 4, 2), (.iconst 1, 1), (.iadd, 1), (.iaload, 1), (.aload_n 0, 1), (.iload 4, 2), (.iconst 2, 1), (.iadd, 1), (.iaload, 1), (.invokevirtual 170, 3), (.aload_n 2, 1), (.aload_n 0, 1), (.iload 4, 2), (.iconst 1, 1), (.iadd, 1), (.iaload, 1), (.aload_n 0, 1), (.iload 4, 2), (.iconst 2, 1), (.iadd, 1), (.iaload, 1), (.invokevirtual 173, 3), (.if_icmp .eq 129, 3), (.iconst 0, 1), (.ireturn, 1)] = true := by decide +kernel
theorem ok_Law_law_1393 : okb code 1393 [(.aload_n 1, 1), (.aload_n 0, 1), (.iload 4, 2), (.iconst 1, 1), (.iadd, 1), (.iaload, 1), (.invokevirtual 174, 3), (.aload_n 2, 1), (.aload_n 0, 1), (.iload 4, 2), (.iconst 1, 1), (.iadd, 1), (.iaload, 1), (.invokevirtual 177, 3), (.if_icmp .eq 104, 3), (.iconst 0, 1), (.ireturn, 1)] = true := by decide +kernel
theorem ok_Law_law_1418 : okb code 1418 [(.aload_n 1, 1), (.aload_n 0, 1), (.iload 4, 2), (.iconst 1, 1), (.iadd, 1), (.iaload, 1), (.aload_n 0, 1), (.iload 4, 2), (.iconst 2, 1), (.iadd, 1), (.iaload, 1), (.invokevirtual 178, 3), (.aload_n 2, 1), (.aload_n 0, 1), (.iload 4, 2), (.iconst 1, 1), (.iadd, 1), (.iaload, 1), (.aload_n 0, 1), (.iload 4, 2), (.iconst 2, 1), (.iadd, 1), (.iaload, 1), (.invokevirtual 181, 3), (.if_icmp .eq 67, 3), (.iconst 0, 1), (.ireturn, 1)] = true := by decide +kernel
theorem ok_Law_law_1455 : okb code 1455 [(.aload_n 1, 1), (.aload_n 0, 1), (.iload 4, 2), (.iconst 1, 1), (.iadd, 1), (.iaload, 1), (.invokevirtual 182, 3), (.aload_n 2, 1), (.aload_n 0, 1), (.iload 4, 2), (.iconst 1, 1), (.iadd, 1), (.iaload, 1), (.invokevirtual 185, 3), (.if_icmp .eq 42, 3), (.iconst 0, 1), (.ireturn, 1)] = true := by decide +kernel
theorem ok_Law_law_1480 : okb code 1480 [(.aload_n 1, 1), (.aload_n 0, 1), (.iload 4, 2), (.iconst 1, 1), (.iadd, 1), (.iaload, 1), (.aload_n 0, 1), (.iload 4, 2), (.iconst 2, 1), (.iadd, 1), (.iaload, 1), (.invokevirtual 186, 3), (.aload_n 2, 1), (.aload_n 0, 1), (.iload 4, 2), (.iconst 1, 1), (.iadd, 1), (.iaload, 1), (.aload_n 0, 1), (.iload 4, 2), (.iconst 2, 1), (.iadd, 1), (.iaload, 1), (.invokevirtual 189, 3), (.if_icmp .eq 5, 3), (.iconst 0, 1), (.ireturn, 1)] = true := by decide +kernel
theorem ok_Law_law_1517 : okb code 1517 [(.iinc 4 6, 3), (.goto (-1497), 3)] = true := by decide +kernel
theorem ok_Law_law_1523 : okb code 1523 [(.iconst 1, 1), (.ireturn, 1)] = true := by decide +kernel
set_option maxRecDepth 100000 in
def b_Law_law_1517 (G : GT) (k23 : Nat → Nat → Nat → Int32 → PH → Option (Int32 × PH)) (l1 : Nat) (l2 : Nat) (l3 : Nat) (l4 : Int32) (M : PH) : Option (Int32 × PH) :=
  k23 l1 l2 l3 (l4 + (6 : Int32)) M
set_option maxRecDepth 100000 in
set_option maxHeartbeats 4000000 in
theorem t_Law_law_1517 {G : GT} {k23 : Nat → Nat → Nat → Int32 → PH → Option (Int32 × PH)} (hk23 : ∀ (l1 : Nat) (l2 : Nat) (l3 : Nat) (l4 : Int32) (M : PH), VX G mi_Law_law 10 147 23 [some (.ref (gb G)), some (.ref l1), some (.ref l2), some (.ref l3), some (.int l4), none, none] [] M qI (k23 l1 l2 l3 l4 M)) (l1 : Nat) (l2 : Nat) (l3 : Nat) (l4 : Int32) (M : PH) : VX G mi_Law_law 10 147 1517 [some (.ref (gb G)), some (.ref l1), some (.ref l2), some (.ref l3), some (.int l4), none, none] [] M qI (b_Law_law_1517 G k23 l1 l2 l3 l4 M) := by
  unfold b_Law_law_1517
  refine V_open ok_Law_law_1517 ?_
  refine S_inc (6 : Int32) [some (.ref (gb G)), some (.ref l1), some (.ref l2), some (.ref l3), some (.int (l4 + (6 : Int32))), none, none] ic_6 rfl (by decide) rfl ?_
  refine B_goto (tgt := 23) (by decide) ?_
  exact V_weak (ls' := [some (.ref (gb G)), some (.ref l1), some (.ref l2), some (.ref l3), some (.int (l4 + (6 : Int32))), none, none]) ⟨rfl, ⟨rfl, ⟨rfl, ⟨rfl, ⟨rfl, trivial⟩⟩⟩⟩⟩ (hk23 l1 l2 l3 (l4 + (6 : Int32)) M)
set_option maxRecDepth 100000 in
def b_Law_law_242 (G : GT) (k23 : Nat → Nat → Nat → Int32 → PH → Option (Int32 × PH)) (l1 : Nat) (l2 : Nat) (l3 : Nat) (l4 : Int32) (s0 : Int32) (s1 : Nat) (s2 : Int32) (M : PH) : Option (Int32 × PH) :=
  if hT M s1 = 11 then bI (f_Mo_press G s1 s2 M) fun v3 M2 => (if s0 = v3 then (b_Law_law_1517 G k23 l1 l2 l3 l4 M2) else (some ((0 : Int32), M2))) else none
set_option maxRecDepth 100000 in
set_option maxHeartbeats 4000000 in
theorem t_Law_law_242 {G : GT} {k23 : Nat → Nat → Nat → Int32 → PH → Option (Int32 × PH)} (hk23 : ∀ (l1 : Nat) (l2 : Nat) (l3 : Nat) (l4 : Int32) (M : PH), VX G mi_Law_law 10 147 23 [some (.ref (gb G)), some (.ref l1), some (.ref l2), some (.ref l3), some (.int l4), none, none] [] M qI (k23 l1 l2 l3 l4 M)) (l1 : Nat) (l2 : Nat) (l3 : Nat) (l4 : Int32) (s0 : Int32) (s1 : Nat) (s2 : Int32) (M : PH) : VX G mi_Law_law 10 147 242 [some (.ref (gb G)), some (.ref l1), some (.ref l2), some (.ref l3), some (.int l4), none, none] [.int s2, .ref s1, .int s0] M qI (b_Law_law_242 G k23 l1 l2 l3 l4 s0 s1 s2 M) := by
  unfold b_Law_law_242
  refine V_open ok_Law_law_242 ?_
  refine B_chk (fun t1 => ?_)
  refine C_I (vs := [.ref s1, .int s2]) (st := [.int s0]) (ci_V lv_Law_80 rfl rfl t1) rfl rfl rfl (s_Mo_press s1 s2 M) (fun v3 M2 => ?_)
  refine B_ieq (tgt := 1517) (by decide) ?_ ?_
  · skip
    exact V_weak (ls' := [some (.ref (gb G)), some (.ref l1), some (.ref l2), some (.ref l3), some (.int l4), none, none]) ⟨rfl, ⟨rfl, ⟨rfl, ⟨rfl, ⟨rfl, trivial⟩⟩⟩⟩⟩ (t_Law_law_1517 hk23 l1 l2 l3 l4 M2)
  · skip
    refine B_iconst (0 : Int32) ic_0 ?_
    exact Z_ret rfl (Or.inl rfl)
set_option maxRecDepth 100000 in
def b_Law_law_224 (G : GT) (k23 : Nat → Nat → Nat → Int32 → PH → Option (Int32 × PH)) (l1 : Nat) (l2 : Nat) (l3 : Nat) (l4 : Int32) (s0 : Nat) (s1 : Int32) (M : PH) : Option (Int32 × PH) :=
  if hT M s0 = 10 then bI (f_PF_press G s0 s1 M) fun v3 M2 => (if ib (l4 + (1 : Int32)) (gL G) = true then if gx G (l4 + (1 : Int32)).toNatClampNeg = 0 then (b_Law_law_242 G k23 l1 l2 l3 l4 v3 l2 (0 : Int32) M2) else (b_Law_law_242 G k23 l1 l2 l3 l4 v3 l2 (1 : Int32) M2) else none) else none
set_option maxRecDepth 100000 in
set_option maxHeartbeats 4000000 in
theorem t_Law_law_224 {G : GT} {k23 : Nat → Nat → Nat → Int32 → PH → Option (Int32 × PH)} (hk23 : ∀ (l1 : Nat) (l2 : Nat) (l3 : Nat) (l4 : Int32) (M : PH), VX G mi_Law_law 10 147 23 [some (.ref (gb G)), some (.ref l1), some (.ref l2), some (.ref l3), some (.int l4), none, none] [] M qI (k23 l1 l2 l3 l4 M)) (l1 : Nat) (l2 : Nat) (l3 : Nat) (l4 : Int32) (s0 : Nat) (s1 : Int32) (M : PH) : VX G mi_Law_law 10 147 224 [some (.ref (gb G)), some (.ref l1), some (.ref l2), some (.ref l3), some (.int l4), none, none] [.int s1, .ref s0] M qI (b_Law_law_224 G k23 l1 l2 l3 l4 s0 s1 M) := by
  unfold b_Law_law_224
  refine V_open ok_Law_law_224 ?_
  refine B_chk (fun t1 => ?_)
  refine C_I (vs := [.ref s0, .int s1]) (st := []) (ci_V lv_Law_76 rfl rfl t1) rfl rfl rfl (s_PF_press s0 s1 M) (fun v3 M2 => ?_)
  refine B_aload_n rfl ?_
  refine B_aload_n rfl ?_
  refine B_iload rfl ?_
  refine B_iconst (1 : Int32) ic_1 ?_
  refine B_iadd ?_
  refine B_sld ?_
  refine B_eq (tgt := 241) (by decide) ?_ ?_
  · skip
    refine V_open ok_Law_law_241 ?_
    refine B_iconst (0 : Int32) ic_0 ?_
    refine V_close ?_
    exact V_weak (ls' := [some (.ref (gb G)), some (.ref l1), some (.ref l2), some (.ref l3), some (.int l4), none, none]) ⟨rfl, ⟨rfl, ⟨rfl, ⟨rfl, ⟨rfl, trivial⟩⟩⟩⟩⟩ (t_Law_law_242 hk23 l1 l2 l3 l4 v3 l2 (0 : Int32) M2)
  · skip
    refine B_iconst (1 : Int32) ic_1 ?_
    refine B_goto (tgt := 242) (by decide) ?_
    exact V_weak (ls' := [some (.ref (gb G)), some (.ref l1), some (.ref l2), some (.ref l3), some (.int l4), none, none]) ⟨rfl, ⟨rfl, ⟨rfl, ⟨rfl, ⟨rfl, trivial⟩⟩⟩⟩⟩ (t_Law_law_242 hk23 l1 l2 l3 l4 v3 l2 (1 : Int32) M2)
set_option maxRecDepth 100000 in
def b_Law_law_320 (G : GT) (k23 : Nat → Nat → Nat → Int32 → PH → Option (Int32 × PH)) (l1 : Nat) (l2 : Nat) (l3 : Nat) (l4 : Int32) (s0 : Int32) (s1 : Nat) (s2 : Int32) (s3 : Int32) (M : PH) : Option (Int32 × PH) :=
  if hT M s1 = 11 then bI (f_Mo_key G s1 s2 s3 M) fun v3 M2 => (if s0 = v3 then (b_Law_law_1517 G k23 l1 l2 l3 l4 M2) else (some ((0 : Int32), M2))) else none
set_option maxRecDepth 100000 in
set_option maxHeartbeats 4000000 in
theorem t_Law_law_320 {G : GT} {k23 : Nat → Nat → Nat → Int32 → PH → Option (Int32 × PH)} (hk23 : ∀ (l1 : Nat) (l2 : Nat) (l3 : Nat) (l4 : Int32) (M : PH), VX G mi_Law_law 10 147 23 [some (.ref (gb G)), some (.ref l1), some (.ref l2), some (.ref l3), some (.int l4), none, none] [] M qI (k23 l1 l2 l3 l4 M)) (l1 : Nat) (l2 : Nat) (l3 : Nat) (l4 : Int32) (s0 : Int32) (s1 : Nat) (s2 : Int32) (s3 : Int32) (M : PH) : VX G mi_Law_law 10 147 320 [some (.ref (gb G)), some (.ref l1), some (.ref l2), some (.ref l3), some (.int l4), none, none] [.int s3, .int s2, .ref s1, .int s0] M qI (b_Law_law_320 G k23 l1 l2 l3 l4 s0 s1 s2 s3 M) := by
  unfold b_Law_law_320
  refine V_open ok_Law_law_320 ?_
  refine B_chk (fun t1 => ?_)
  refine C_I (vs := [.ref s1, .int s2, .int s3]) (st := [.int s0]) (ci_V lv_Law_89 rfl rfl t1) rfl rfl rfl (s_Mo_key s1 s2 s3 M) (fun v3 M2 => ?_)
  refine B_ieq (tgt := 1517) (by decide) ?_ ?_
  · skip
    exact V_weak (ls' := [some (.ref (gb G)), some (.ref l1), some (.ref l2), some (.ref l3), some (.int l4), none, none]) ⟨rfl, ⟨rfl, ⟨rfl, ⟨rfl, ⟨rfl, trivial⟩⟩⟩⟩⟩ (t_Law_law_1517 hk23 l1 l2 l3 l4 M2)
  · skip
    refine B_iconst (0 : Int32) ic_0 ?_
    exact Z_ret rfl (Or.inl rfl)
set_option maxRecDepth 100000 in
def b_Law_law_296 (G : GT) (k23 : Nat → Nat → Nat → Int32 → PH → Option (Int32 × PH)) (l1 : Nat) (l2 : Nat) (l3 : Nat) (l4 : Int32) (s0 : Nat) (s1 : Int32) (s2 : Int32) (M : PH) : Option (Int32 × PH) :=
  if hT M s0 = 10 then bI (f_PF_key G s0 s1 s2 M) fun v3 M2 => (if ib (l4 + (1 : Int32)) (gL G) = true then if ib (l4 + (2 : Int32)) (gL G) = true then if gx G (l4 + (2 : Int32)).toNatClampNeg = 0 then (b_Law_law_320 G k23 l1 l2 l3 l4 v3 l2 (gx G (l4 + (1 : Int32)).toNatClampNeg) (0 : Int32) M2) else (b_Law_law_320 G k23 l1 l2 l3 l4 v3 l2 (gx G (l4 + (1 : Int32)).toNatClampNeg) (1 : Int32) M2) else none else none) else none
set_option maxRecDepth 100000 in
set_option maxHeartbeats 4000000 in
theorem t_Law_law_296 {G : GT} {k23 : Nat → Nat → Nat → Int32 → PH → Option (Int32 × PH)} (hk23 : ∀ (l1 : Nat) (l2 : Nat) (l3 : Nat) (l4 : Int32) (M : PH), VX G mi_Law_law 10 147 23 [some (.ref (gb G)), some (.ref l1), some (.ref l2), some (.ref l3), some (.int l4), none, none] [] M qI (k23 l1 l2 l3 l4 M)) (l1 : Nat) (l2 : Nat) (l3 : Nat) (l4 : Int32) (s0 : Nat) (s1 : Int32) (s2 : Int32) (M : PH) : VX G mi_Law_law 10 147 296 [some (.ref (gb G)), some (.ref l1), some (.ref l2), some (.ref l3), some (.int l4), none, none] [.int s2, .int s1, .ref s0] M qI (b_Law_law_296 G k23 l1 l2 l3 l4 s0 s1 s2 M) := by
  unfold b_Law_law_296
  refine V_open ok_Law_law_296 ?_
  refine B_chk (fun t1 => ?_)
  refine C_I (vs := [.ref s0, .int s1, .int s2]) (st := []) (ci_V lv_Law_85 rfl rfl t1) rfl rfl rfl (s_PF_key s0 s1 s2 M) (fun v3 M2 => ?_)
  refine B_aload_n rfl ?_
  refine B_aload_n rfl ?_
  refine B_iload rfl ?_
  refine B_iconst (1 : Int32) ic_1 ?_
  refine B_iadd ?_
  refine B_sld ?_
  refine B_aload_n rfl ?_
  refine B_iload rfl ?_
  refine B_iconst (2 : Int32) ic_2 ?_
  refine B_iadd ?_
  refine B_sld ?_
  refine B_eq (tgt := 319) (by decide) ?_ ?_
  · skip
    refine V_open ok_Law_law_319 ?_
    refine B_iconst (0 : Int32) ic_0 ?_
    refine V_close ?_
    exact V_weak (ls' := [some (.ref (gb G)), some (.ref l1), some (.ref l2), some (.ref l3), some (.int l4), none, none]) ⟨rfl, ⟨rfl, ⟨rfl, ⟨rfl, ⟨rfl, trivial⟩⟩⟩⟩⟩ (t_Law_law_320 hk23 l1 l2 l3 l4 v3 l2 (gx G (l4 + (1 : Int32)).toNatClampNeg) (0 : Int32) M2)
  · skip
    refine B_iconst (1 : Int32) ic_1 ?_
    refine B_goto (tgt := 320) (by decide) ?_
    exact V_weak (ls' := [some (.ref (gb G)), some (.ref l1), some (.ref l2), some (.ref l3), some (.int l4), none, none]) ⟨rfl, ⟨rfl, ⟨rfl, ⟨rfl, ⟨rfl, trivial⟩⟩⟩⟩⟩ (t_Law_law_320 hk23 l1 l2 l3 l4 v3 l2 (gx G (l4 + (1 : Int32)).toNatClampNeg) (1 : Int32) M2)
set_option maxRecDepth 100000 in
def b_Law_law_394 (G : GT) (k23 : Nat → Nat → Nat → Int32 → PH → Option (Int32 × PH)) (l1 : Nat) (l2 : Nat) (l3 : Nat) (l4 : Int32) (M : PH) : Option (Int32 × PH) :=
  b_Law_law_1517 G k23 l1 l2 l3 l4 M
set_option maxRecDepth 100000 in
set_option maxHeartbeats 4000000 in
theorem t_Law_law_394 {G : GT} {k23 : Nat → Nat → Nat → Int32 → PH → Option (Int32 × PH)} (hk23 : ∀ (l1 : Nat) (l2 : Nat) (l3 : Nat) (l4 : Int32) (M : PH), VX G mi_Law_law 10 147 23 [some (.ref (gb G)), some (.ref l1), some (.ref l2), some (.ref l3), some (.int l4), none, none] [] M qI (k23 l1 l2 l3 l4 M)) (l1 : Nat) (l2 : Nat) (l3 : Nat) (l4 : Int32) (M : PH) : VX G mi_Law_law 10 147 394 [some (.ref (gb G)), some (.ref l1), some (.ref l2), some (.ref l3), some (.int l4), none, none] [] M qI (b_Law_law_394 G k23 l1 l2 l3 l4 M) := by
  unfold b_Law_law_394
  refine V_open ok_Law_law_394 ?_
  refine B_goto (tgt := 1517) (by decide) ?_
  exact V_weak (ls' := [some (.ref (gb G)), some (.ref l1), some (.ref l2), some (.ref l3), some (.int l4), none, none]) ⟨rfl, ⟨rfl, ⟨rfl, ⟨rfl, ⟨rfl, trivial⟩⟩⟩⟩⟩ (t_Law_law_1517 hk23 l1 l2 l3 l4 M)
set_option maxRecDepth 100000 in
def b_Law_law_438 (G : GT) (k23 : Nat → Nat → Nat → Int32 → PH → Option (Int32 × PH)) (l1 : Nat) (l2 : Nat) (l3 : Nat) (l4 : Int32) (M : PH) : Option (Int32 × PH) :=
  b_Law_law_1517 G k23 l1 l2 l3 l4 M
set_option maxRecDepth 100000 in
set_option maxHeartbeats 4000000 in
theorem t_Law_law_438 {G : GT} {k23 : Nat → Nat → Nat → Int32 → PH → Option (Int32 × PH)} (hk23 : ∀ (l1 : Nat) (l2 : Nat) (l3 : Nat) (l4 : Int32) (M : PH), VX G mi_Law_law 10 147 23 [some (.ref (gb G)), some (.ref l1), some (.ref l2), some (.ref l3), some (.int l4), none, none] [] M qI (k23 l1 l2 l3 l4 M)) (l1 : Nat) (l2 : Nat) (l3 : Nat) (l4 : Int32) (M : PH) : VX G mi_Law_law 10 147 438 [some (.ref (gb G)), some (.ref l1), some (.ref l2), some (.ref l3), some (.int l4), none, none] [] M qI (b_Law_law_438 G k23 l1 l2 l3 l4 M) := by
  unfold b_Law_law_438
  refine V_open ok_Law_law_438 ?_
  refine B_goto (tgt := 1517) (by decide) ?_
  exact V_weak (ls' := [some (.ref (gb G)), some (.ref l1), some (.ref l2), some (.ref l3), some (.int l4), none, none]) ⟨rfl, ⟨rfl, ⟨rfl, ⟨rfl, ⟨rfl, trivial⟩⟩⟩⟩⟩ (t_Law_law_1517 hk23 l1 l2 l3 l4 M)
set_option maxRecDepth 100000 in
def b_Law_law_549 (G : GT) (k23 : Nat → Nat → Nat → Int32 → PH → Option (Int32 × PH)) (l1 : Nat) (l2 : Nat) (l3 : Nat) (l4 : Int32) (M : PH) : Option (Int32 × PH) :=
  b_Law_law_1517 G k23 l1 l2 l3 l4 M
set_option maxRecDepth 100000 in
set_option maxHeartbeats 4000000 in
theorem t_Law_law_549 {G : GT} {k23 : Nat → Nat → Nat → Int32 → PH → Option (Int32 × PH)} (hk23 : ∀ (l1 : Nat) (l2 : Nat) (l3 : Nat) (l4 : Int32) (M : PH), VX G mi_Law_law 10 147 23 [some (.ref (gb G)), some (.ref l1), some (.ref l2), some (.ref l3), some (.int l4), none, none] [] M qI (k23 l1 l2 l3 l4 M)) (l1 : Nat) (l2 : Nat) (l3 : Nat) (l4 : Int32) (M : PH) : VX G mi_Law_law 10 147 549 [some (.ref (gb G)), some (.ref l1), some (.ref l2), some (.ref l3), some (.int l4), none, none] [] M qI (b_Law_law_549 G k23 l1 l2 l3 l4 M) := by
  unfold b_Law_law_549
  refine V_open ok_Law_law_549 ?_
  refine B_goto (tgt := 1517) (by decide) ?_
  exact V_weak (ls' := [some (.ref (gb G)), some (.ref l1), some (.ref l2), some (.ref l3), some (.int l4), none, none]) ⟨rfl, ⟨rfl, ⟨rfl, ⟨rfl, ⟨rfl, trivial⟩⟩⟩⟩⟩ (t_Law_law_1517 hk23 l1 l2 l3 l4 M)
set_option maxRecDepth 100000 in
def b_Law_law_543 (G : GT) (k23 : Nat → Nat → Nat → Int32 → PH → Option (Int32 × PH)) (l1 : Nat) (l2 : Nat) (l3 : Nat) (l4 : Int32) (s0 : Int64) (s1 : Int64) (M : PH) : Option (Int32 × PH) :=
  if lg_cmp s0 s1 = 0 then (b_Law_law_549 G k23 l1 l2 l3 l4 M) else (some ((0 : Int32), M))
set_option maxRecDepth 100000 in
set_option maxHeartbeats 4000000 in
theorem t_Law_law_543 {G : GT} {k23 : Nat → Nat → Nat → Int32 → PH → Option (Int32 × PH)} (hk23 : ∀ (l1 : Nat) (l2 : Nat) (l3 : Nat) (l4 : Int32) (M : PH), VX G mi_Law_law 10 147 23 [some (.ref (gb G)), some (.ref l1), some (.ref l2), some (.ref l3), some (.int l4), none, none] [] M qI (k23 l1 l2 l3 l4 M)) (l1 : Nat) (l2 : Nat) (l3 : Nat) (l4 : Int32) (s0 : Int64) (s1 : Int64) (M : PH) : VX G mi_Law_law 10 147 543 [some (.ref (gb G)), some (.ref l1), some (.ref l2), some (.ref l3), some (.int l4), none, none] [.long s1, .long s0] M qI (b_Law_law_543 G k23 l1 l2 l3 l4 s0 s1 M) := by
  unfold b_Law_law_543
  refine V_open ok_Law_law_543 ?_
  refine B_lcmp ?_
  refine B_eq (tgt := 549) (by decide) ?_ ?_
  · skip
    exact V_weak (ls' := [some (.ref (gb G)), some (.ref l1), some (.ref l2), some (.ref l3), some (.int l4), none, none]) ⟨rfl, ⟨rfl, ⟨rfl, ⟨rfl, ⟨rfl, trivial⟩⟩⟩⟩⟩ (t_Law_law_549 hk23 l1 l2 l3 l4 M)
  · skip
    refine B_iconst (0 : Int32) ic_0 ?_
    exact Z_ret rfl (Or.inl rfl)
set_option maxRecDepth 100000 in
def b_Law_law_612 (G : GT) (k23 : Nat → Nat → Nat → Int32 → PH → Option (Int32 × PH)) (l1 : Nat) (l2 : Nat) (l3 : Nat) (l4 : Int32) (M : PH) : Option (Int32 × PH) :=
  b_Law_law_1517 G k23 l1 l2 l3 l4 M
set_option maxRecDepth 100000 in
set_option maxHeartbeats 4000000 in
theorem t_Law_law_612 {G : GT} {k23 : Nat → Nat → Nat → Int32 → PH → Option (Int32 × PH)} (hk23 : ∀ (l1 : Nat) (l2 : Nat) (l3 : Nat) (l4 : Int32) (M : PH), VX G mi_Law_law 10 147 23 [some (.ref (gb G)), some (.ref l1), some (.ref l2), some (.ref l3), some (.int l4), none, none] [] M qI (k23 l1 l2 l3 l4 M)) (l1 : Nat) (l2 : Nat) (l3 : Nat) (l4 : Int32) (M : PH) : VX G mi_Law_law 10 147 612 [some (.ref (gb G)), some (.ref l1), some (.ref l2), some (.ref l3), some (.int l4), none, none] [] M qI (b_Law_law_612 G k23 l1 l2 l3 l4 M) := by
  unfold b_Law_law_612
  refine V_open ok_Law_law_612 ?_
  refine B_goto (tgt := 1517) (by decide) ?_
  exact V_weak (ls' := [some (.ref (gb G)), some (.ref l1), some (.ref l2), some (.ref l3), some (.int l4), none, none]) ⟨rfl, ⟨rfl, ⟨rfl, ⟨rfl, ⟨rfl, trivial⟩⟩⟩⟩⟩ (t_Law_law_1517 hk23 l1 l2 l3 l4 M)
set_option maxRecDepth 100000 in
def b_Law_law_606 (G : GT) (k23 : Nat → Nat → Nat → Int32 → PH → Option (Int32 × PH)) (l1 : Nat) (l2 : Nat) (l3 : Nat) (l4 : Int32) (s0 : Int64) (s1 : Int64) (M : PH) : Option (Int32 × PH) :=
  if lg_cmp s0 s1 = 0 then (b_Law_law_612 G k23 l1 l2 l3 l4 M) else (some ((0 : Int32), M))
set_option maxRecDepth 100000 in
set_option maxHeartbeats 4000000 in
theorem t_Law_law_606 {G : GT} {k23 : Nat → Nat → Nat → Int32 → PH → Option (Int32 × PH)} (hk23 : ∀ (l1 : Nat) (l2 : Nat) (l3 : Nat) (l4 : Int32) (M : PH), VX G mi_Law_law 10 147 23 [some (.ref (gb G)), some (.ref l1), some (.ref l2), some (.ref l3), some (.int l4), none, none] [] M qI (k23 l1 l2 l3 l4 M)) (l1 : Nat) (l2 : Nat) (l3 : Nat) (l4 : Int32) (s0 : Int64) (s1 : Int64) (M : PH) : VX G mi_Law_law 10 147 606 [some (.ref (gb G)), some (.ref l1), some (.ref l2), some (.ref l3), some (.int l4), none, none] [.long s1, .long s0] M qI (b_Law_law_606 G k23 l1 l2 l3 l4 s0 s1 M) := by
  unfold b_Law_law_606
  refine V_open ok_Law_law_606 ?_
  refine B_lcmp ?_
  refine B_eq (tgt := 612) (by decide) ?_ ?_
  · skip
    exact V_weak (ls' := [some (.ref (gb G)), some (.ref l1), some (.ref l2), some (.ref l3), some (.int l4), none, none]) ⟨rfl, ⟨rfl, ⟨rfl, ⟨rfl, ⟨rfl, trivial⟩⟩⟩⟩⟩ (t_Law_law_612 hk23 l1 l2 l3 l4 M)
  · skip
    refine B_iconst (0 : Int32) ic_0 ?_
    exact Z_ret rfl (Or.inl rfl)
set_option maxRecDepth 100000 in
def b_Law_law_699 (G : GT) (k23 : Nat → Nat → Nat → Int32 → PH → Option (Int32 × PH)) (l1 : Nat) (l2 : Nat) (l3 : Nat) (l4 : Int32) (M : PH) : Option (Int32 × PH) :=
  b_Law_law_1517 G k23 l1 l2 l3 l4 M
set_option maxRecDepth 100000 in
set_option maxHeartbeats 4000000 in
theorem t_Law_law_699 {G : GT} {k23 : Nat → Nat → Nat → Int32 → PH → Option (Int32 × PH)} (hk23 : ∀ (l1 : Nat) (l2 : Nat) (l3 : Nat) (l4 : Int32) (M : PH), VX G mi_Law_law 10 147 23 [some (.ref (gb G)), some (.ref l1), some (.ref l2), some (.ref l3), some (.int l4), none, none] [] M qI (k23 l1 l2 l3 l4 M)) (l1 : Nat) (l2 : Nat) (l3 : Nat) (l4 : Int32) (M : PH) : VX G mi_Law_law 10 147 699 [some (.ref (gb G)), some (.ref l1), some (.ref l2), some (.ref l3), some (.int l4), none, none] [] M qI (b_Law_law_699 G k23 l1 l2 l3 l4 M) := by
  unfold b_Law_law_699
  refine V_open ok_Law_law_699 ?_
  refine B_goto (tgt := 1517) (by decide) ?_
  exact V_weak (ls' := [some (.ref (gb G)), some (.ref l1), some (.ref l2), some (.ref l3), some (.int l4), none, none]) ⟨rfl, ⟨rfl, ⟨rfl, ⟨rfl, ⟨rfl, trivial⟩⟩⟩⟩⟩ (t_Law_law_1517 hk23 l1 l2 l3 l4 M)
set_option maxRecDepth 100000 in
def b_Law_law_693 (G : GT) (k23 : Nat → Nat → Nat → Int32 → PH → Option (Int32 × PH)) (l1 : Nat) (l2 : Nat) (l3 : Nat) (l4 : Int32) (s0 : Int64) (s1 : Int64) (M : PH) : Option (Int32 × PH) :=
  if lg_cmp s0 s1 = 0 then (b_Law_law_699 G k23 l1 l2 l3 l4 M) else (some ((0 : Int32), M))
set_option maxRecDepth 100000 in
set_option maxHeartbeats 4000000 in
theorem t_Law_law_693 {G : GT} {k23 : Nat → Nat → Nat → Int32 → PH → Option (Int32 × PH)} (hk23 : ∀ (l1 : Nat) (l2 : Nat) (l3 : Nat) (l4 : Int32) (M : PH), VX G mi_Law_law 10 147 23 [some (.ref (gb G)), some (.ref l1), some (.ref l2), some (.ref l3), some (.int l4), none, none] [] M qI (k23 l1 l2 l3 l4 M)) (l1 : Nat) (l2 : Nat) (l3 : Nat) (l4 : Int32) (s0 : Int64) (s1 : Int64) (M : PH) : VX G mi_Law_law 10 147 693 [some (.ref (gb G)), some (.ref l1), some (.ref l2), some (.ref l3), some (.int l4), none, none] [.long s1, .long s0] M qI (b_Law_law_693 G k23 l1 l2 l3 l4 s0 s1 M) := by
  unfold b_Law_law_693
  refine V_open ok_Law_law_693 ?_
  refine B_lcmp ?_
  refine B_eq (tgt := 699) (by decide) ?_ ?_
  · skip
    exact V_weak (ls' := [some (.ref (gb G)), some (.ref l1), some (.ref l2), some (.ref l3), some (.int l4), none, none]) ⟨rfl, ⟨rfl, ⟨rfl, ⟨rfl, ⟨rfl, trivial⟩⟩⟩⟩⟩ (t_Law_law_699 hk23 l1 l2 l3 l4 M)
  · skip
    refine B_iconst (0 : Int32) ic_0 ?_
    exact Z_ret rfl (Or.inl rfl)
set_option maxRecDepth 100000 in
def b_Law_law_756 (G : GT) (k23 : Nat → Nat → Nat → Int32 → PH → Option (Int32 × PH)) (l1 : Nat) (l2 : Nat) (l3 : Nat) (l4 : Int32) (M : PH) : Option (Int32 × PH) :=
  b_Law_law_1517 G k23 l1 l2 l3 l4 M
set_option maxRecDepth 100000 in
set_option maxHeartbeats 4000000 in
theorem t_Law_law_756 {G : GT} {k23 : Nat → Nat → Nat → Int32 → PH → Option (Int32 × PH)} (hk23 : ∀ (l1 : Nat) (l2 : Nat) (l3 : Nat) (l4 : Int32) (M : PH), VX G mi_Law_law 10 147 23 [some (.ref (gb G)), some (.ref l1), some (.ref l2), some (.ref l3), some (.int l4), none, none] [] M qI (k23 l1 l2 l3 l4 M)) (l1 : Nat) (l2 : Nat) (l3 : Nat) (l4 : Int32) (M : PH) : VX G mi_Law_law 10 147 756 [some (.ref (gb G)), some (.ref l1), some (.ref l2), some (.ref l3), some (.int l4), none, none] [] M qI (b_Law_law_756 G k23 l1 l2 l3 l4 M) := by
  unfold b_Law_law_756
  refine V_open ok_Law_law_756 ?_
  refine B_goto (tgt := 1517) (by decide) ?_
  exact V_weak (ls' := [some (.ref (gb G)), some (.ref l1), some (.ref l2), some (.ref l3), some (.int l4), none, none]) ⟨rfl, ⟨rfl, ⟨rfl, ⟨rfl, ⟨rfl, trivial⟩⟩⟩⟩⟩ (t_Law_law_1517 hk23 l1 l2 l3 l4 M)
set_option maxRecDepth 100000 in
def b_Law_law_831 (G : GT) (k23 : Nat → Nat → Nat → Int32 → PH → Option (Int32 × PH)) (l1 : Nat) (l2 : Nat) (l3 : Nat) (l4 : Int32) (M : PH) : Option (Int32 × PH) :=
  b_Law_law_1517 G k23 l1 l2 l3 l4 M
set_option maxRecDepth 100000 in
set_option maxHeartbeats 4000000 in
theorem t_Law_law_831 {G : GT} {k23 : Nat → Nat → Nat → Int32 → PH → Option (Int32 × PH)} (hk23 : ∀ (l1 : Nat) (l2 : Nat) (l3 : Nat) (l4 : Int32) (M : PH), VX G mi_Law_law 10 147 23 [some (.ref (gb G)), some (.ref l1), some (.ref l2), some (.ref l3), some (.int l4), none, none] [] M qI (k23 l1 l2 l3 l4 M)) (l1 : Nat) (l2 : Nat) (l3 : Nat) (l4 : Int32) (M : PH) : VX G mi_Law_law 10 147 831 [some (.ref (gb G)), some (.ref l1), some (.ref l2), some (.ref l3), some (.int l4), none, none] [] M qI (b_Law_law_831 G k23 l1 l2 l3 l4 M) := by
  unfold b_Law_law_831
  refine V_open ok_Law_law_831 ?_
  refine B_goto (tgt := 1517) (by decide) ?_
  exact V_weak (ls' := [some (.ref (gb G)), some (.ref l1), some (.ref l2), some (.ref l3), some (.int l4), none, none]) ⟨rfl, ⟨rfl, ⟨rfl, ⟨rfl, ⟨rfl, trivial⟩⟩⟩⟩⟩ (t_Law_law_1517 hk23 l1 l2 l3 l4 M)
set_option maxRecDepth 100000 in
def b_Law_law_825 (G : GT) (k23 : Nat → Nat → Nat → Int32 → PH → Option (Int32 × PH)) (l1 : Nat) (l2 : Nat) (l3 : Nat) (l4 : Int32) (s0 : Int64) (s1 : Int64) (M : PH) : Option (Int32 × PH) :=
  if lg_cmp s0 s1 = 0 then (b_Law_law_831 G k23 l1 l2 l3 l4 M) else (some ((0 : Int32), M))
set_option maxRecDepth 100000 in
set_option maxHeartbeats 4000000 in
theorem t_Law_law_825 {G : GT} {k23 : Nat → Nat → Nat → Int32 → PH → Option (Int32 × PH)} (hk23 : ∀ (l1 : Nat) (l2 : Nat) (l3 : Nat) (l4 : Int32) (M : PH), VX G mi_Law_law 10 147 23 [some (.ref (gb G)), some (.ref l1), some (.ref l2), some (.ref l3), some (.int l4), none, none] [] M qI (k23 l1 l2 l3 l4 M)) (l1 : Nat) (l2 : Nat) (l3 : Nat) (l4 : Int32) (s0 : Int64) (s1 : Int64) (M : PH) : VX G mi_Law_law 10 147 825 [some (.ref (gb G)), some (.ref l1), some (.ref l2), some (.ref l3), some (.int l4), none, none] [.long s1, .long s0] M qI (b_Law_law_825 G k23 l1 l2 l3 l4 s0 s1 M) := by
  unfold b_Law_law_825
  refine V_open ok_Law_law_825 ?_
  refine B_lcmp ?_
  refine B_eq (tgt := 831) (by decide) ?_ ?_
  · skip
    exact V_weak (ls' := [some (.ref (gb G)), some (.ref l1), some (.ref l2), some (.ref l3), some (.int l4), none, none]) ⟨rfl, ⟨rfl, ⟨rfl, ⟨rfl, ⟨rfl, trivial⟩⟩⟩⟩⟩ (t_Law_law_831 hk23 l1 l2 l3 l4 M)
  · skip
    refine B_iconst (0 : Int32) ic_0 ?_
    exact Z_ret rfl (Or.inl rfl)
set_option maxRecDepth 100000 in
def b_Law_law_887 (G : GT) (k23 : Nat → Nat → Nat → Int32 → PH → Option (Int32 × PH)) (l1 : Nat) (l2 : Nat) (l3 : Nat) (l4 : Int32) (M : PH) : Option (Int32 × PH) :=
  b_Law_law_1517 G k23 l1 l2 l3 l4 M
set_option maxRecDepth 100000 in
set_option maxHeartbeats 4000000 in
theorem t_Law_law_887 {G : GT} {k23 : Nat → Nat → Nat → Int32 → PH → Option (Int32 × PH)} (hk23 : ∀ (l1 : Nat) (l2 : Nat) (l3 : Nat) (l4 : Int32) (M : PH), VX G mi_Law_law 10 147 23 [some (.ref (gb G)), some (.ref l1), some (.ref l2), some (.ref l3), some (.int l4), none, none] [] M qI (k23 l1 l2 l3 l4 M)) (l1 : Nat) (l2 : Nat) (l3 : Nat) (l4 : Int32) (M : PH) : VX G mi_Law_law 10 147 887 [some (.ref (gb G)), some (.ref l1), some (.ref l2), some (.ref l3), some (.int l4), none, none] [] M qI (b_Law_law_887 G k23 l1 l2 l3 l4 M) := by
  unfold b_Law_law_887
  refine V_open ok_Law_law_887 ?_
  refine B_goto (tgt := 1517) (by decide) ?_
  exact V_weak (ls' := [some (.ref (gb G)), some (.ref l1), some (.ref l2), some (.ref l3), some (.int l4), none, none]) ⟨rfl, ⟨rfl, ⟨rfl, ⟨rfl, ⟨rfl, trivial⟩⟩⟩⟩⟩ (t_Law_law_1517 hk23 l1 l2 l3 l4 M)
set_option maxRecDepth 100000 in
def b_Law_law_979 (G : GT) (k23 : Nat → Nat → Nat → Int32 → PH → Option (Int32 × PH)) (l1 : Nat) (l2 : Nat) (l3 : Nat) (l4 : Int32) (M : PH) : Option (Int32 × PH) :=
  b_Law_law_1517 G k23 l1 l2 l3 l4 M
set_option maxRecDepth 100000 in
set_option maxHeartbeats 4000000 in
theorem t_Law_law_979 {G : GT} {k23 : Nat → Nat → Nat → Int32 → PH → Option (Int32 × PH)} (hk23 : ∀ (l1 : Nat) (l2 : Nat) (l3 : Nat) (l4 : Int32) (M : PH), VX G mi_Law_law 10 147 23 [some (.ref (gb G)), some (.ref l1), some (.ref l2), some (.ref l3), some (.int l4), none, none] [] M qI (k23 l1 l2 l3 l4 M)) (l1 : Nat) (l2 : Nat) (l3 : Nat) (l4 : Int32) (M : PH) : VX G mi_Law_law 10 147 979 [some (.ref (gb G)), some (.ref l1), some (.ref l2), some (.ref l3), some (.int l4), none, none] [] M qI (b_Law_law_979 G k23 l1 l2 l3 l4 M) := by
  unfold b_Law_law_979
  refine V_open ok_Law_law_979 ?_
  refine B_goto (tgt := 1517) (by decide) ?_
  exact V_weak (ls' := [some (.ref (gb G)), some (.ref l1), some (.ref l2), some (.ref l3), some (.int l4), none, none]) ⟨rfl, ⟨rfl, ⟨rfl, ⟨rfl, ⟨rfl, trivial⟩⟩⟩⟩⟩ (t_Law_law_1517 hk23 l1 l2 l3 l4 M)
set_option maxRecDepth 100000 in
def b_Law_law_1047 (G : GT) (k23 : Nat → Nat → Nat → Int32 → PH → Option (Int32 × PH)) (l1 : Nat) (l2 : Nat) (l3 : Nat) (l4 : Int32) (M : PH) : Option (Int32 × PH) :=
  b_Law_law_1517 G k23 l1 l2 l3 l4 M
set_option maxRecDepth 100000 in
set_option maxHeartbeats 4000000 in
theorem t_Law_law_1047 {G : GT} {k23 : Nat → Nat → Nat → Int32 → PH → Option (Int32 × PH)} (hk23 : ∀ (l1 : Nat) (l2 : Nat) (l3 : Nat) (l4 : Int32) (M : PH), VX G mi_Law_law 10 147 23 [some (.ref (gb G)), some (.ref l1), some (.ref l2), some (.ref l3), some (.int l4), none, none] [] M qI (k23 l1 l2 l3 l4 M)) (l1 : Nat) (l2 : Nat) (l3 : Nat) (l4 : Int32) (M : PH) : VX G mi_Law_law 10 147 1047 [some (.ref (gb G)), some (.ref l1), some (.ref l2), some (.ref l3), some (.int l4), none, none] [] M qI (b_Law_law_1047 G k23 l1 l2 l3 l4 M) := by
  unfold b_Law_law_1047
  refine V_open ok_Law_law_1047 ?_
  refine B_goto (tgt := 1517) (by decide) ?_
  exact V_weak (ls' := [some (.ref (gb G)), some (.ref l1), some (.ref l2), some (.ref l3), some (.int l4), none, none]) ⟨rfl, ⟨rfl, ⟨rfl, ⟨rfl, ⟨rfl, trivial⟩⟩⟩⟩⟩ (t_Law_law_1517 hk23 l1 l2 l3 l4 M)
set_option maxRecDepth 100000 in
def b_Law_law_1122 (G : GT) (k23 : Nat → Nat → Nat → Int32 → PH → Option (Int32 × PH)) (l1 : Nat) (l2 : Nat) (l3 : Nat) (l4 : Int32) (M : PH) : Option (Int32 × PH) :=
  b_Law_law_1517 G k23 l1 l2 l3 l4 M
set_option maxRecDepth 100000 in
set_option maxHeartbeats 4000000 in
theorem t_Law_law_1122 {G : GT} {k23 : Nat → Nat → Nat → Int32 → PH → Option (Int32 × PH)} (hk23 : ∀ (l1 : Nat) (l2 : Nat) (l3 : Nat) (l4 : Int32) (M : PH), VX G mi_Law_law 10 147 23 [some (.ref (gb G)), some (.ref l1), some (.ref l2), some (.ref l3), some (.int l4), none, none] [] M qI (k23 l1 l2 l3 l4 M)) (l1 : Nat) (l2 : Nat) (l3 : Nat) (l4 : Int32) (M : PH) : VX G mi_Law_law 10 147 1122 [some (.ref (gb G)), some (.ref l1), some (.ref l2), some (.ref l3), some (.int l4), none, none] [] M qI (b_Law_law_1122 G k23 l1 l2 l3 l4 M) := by
  unfold b_Law_law_1122
  refine V_open ok_Law_law_1122 ?_
  refine B_goto (tgt := 1517) (by decide) ?_
  exact V_weak (ls' := [some (.ref (gb G)), some (.ref l1), some (.ref l2), some (.ref l3), some (.int l4), none, none]) ⟨rfl, ⟨rfl, ⟨rfl, ⟨rfl, ⟨rfl, trivial⟩⟩⟩⟩⟩ (t_Law_law_1517 hk23 l1 l2 l3 l4 M)
set_option maxRecDepth 100000 in
def b_Law_law_1116 (G : GT) (k23 : Nat → Nat → Nat → Int32 → PH → Option (Int32 × PH)) (l1 : Nat) (l2 : Nat) (l3 : Nat) (l4 : Int32) (s0 : Int64) (s1 : Int64) (M : PH) : Option (Int32 × PH) :=
  if lg_cmp s0 s1 = 0 then (b_Law_law_1122 G k23 l1 l2 l3 l4 M) else (some ((0 : Int32), M))
set_option maxRecDepth 100000 in
set_option maxHeartbeats 4000000 in
theorem t_Law_law_1116 {G : GT} {k23 : Nat → Nat → Nat → Int32 → PH → Option (Int32 × PH)} (hk23 : ∀ (l1 : Nat) (l2 : Nat) (l3 : Nat) (l4 : Int32) (M : PH), VX G mi_Law_law 10 147 23 [some (.ref (gb G)), some (.ref l1), some (.ref l2), some (.ref l3), some (.int l4), none, none] [] M qI (k23 l1 l2 l3 l4 M)) (l1 : Nat) (l2 : Nat) (l3 : Nat) (l4 : Int32) (s0 : Int64) (s1 : Int64) (M : PH) : VX G mi_Law_law 10 147 1116 [some (.ref (gb G)), some (.ref l1), some (.ref l2), some (.ref l3), some (.int l4), none, none] [.long s1, .long s0] M qI (b_Law_law_1116 G k23 l1 l2 l3 l4 s0 s1 M) := by
  unfold b_Law_law_1116
  refine V_open ok_Law_law_1116 ?_
  refine B_lcmp ?_
  refine B_eq (tgt := 1122) (by decide) ?_ ?_
  · skip
    exact V_weak (ls' := [some (.ref (gb G)), some (.ref l1), some (.ref l2), some (.ref l3), some (.int l4), none, none]) ⟨rfl, ⟨rfl, ⟨rfl, ⟨rfl, ⟨rfl, trivial⟩⟩⟩⟩⟩ (t_Law_law_1122 hk23 l1 l2 l3 l4 M)
  · skip
    refine B_iconst (0 : Int32) ic_0 ?_
    exact Z_ret rfl (Or.inl rfl)
set_option maxRecDepth 100000 in
def b_Law_law_23 (G : GT) (k23 : Nat → Nat → Nat → Int32 → PH → Option (Int32 × PH)) (l1 : Nat) (l2 : Nat) (l3 : Nat) (l4 : Int32) (M : PH) : Option (Int32 × PH) :=
  if (nI (gL G)) - (6 : Int32) < l4 then (some ((1 : Int32), M)) else (if ib l4 (gL G) = true then sw ((gx G l4.toNatClampNeg) &&& (31 : Int32)) 0 [if ib (l4 + (1 : Int32)) (gL G) = true then if ib (l4 + (2 : Int32)) (gL G) = true then if hT M l1 = 10 then bI (f_PF_point G l1 (gx G (l4 + (1 : Int32)).toNatClampNeg) (gx G (l4 + (2 : Int32)).toNatClampNeg) M) fun v3 M2 => (if ib (l4 + (1 : Int32)) (gL G) = true then if ib (l4 + (2 : Int32)) (gL G) = true then if hT M2 l2 = 11 then bI (f_Mo_point G l2 (gx G (l4 + (1 : Int32)).toNatClampNeg) (gx G (l4 + (2 : Int32)).toNatClampNeg) M2) fun v6 M5 => (if v3 = v6 then (b_Law_law_1517 G k23 l1 l2 l3 l4 M5) else (some ((0 : Int32), M5))) else none else none else none) else none else none else none, if ib (l4 + (1 : Int32)) (gL G) = true then if gx G (l4 + (1 : Int32)).toNatClampNeg = 0 then (b_Law_law_224 G k23 l1 l2 l3 l4 l1 (0 : Int32) M) else (b_Law_law_224 G k23 l1 l2 l3 l4 l1 (1 : Int32) M) else none, if ib (l4 + (1 : Int32)) (gL G) = true then if hT M l1 = 10 then bI (f_PF_wheel G l1 (gx G (l4 + (1 : Int32)).toNatClampNeg) M) fun v9 M8 => (if ib (l4 + (1 : Int32)) (gL G) = true then if hT M8 l2 = 11 then bI (f_Mo_wheel G l2 (gx G (l4 + (1 : Int32)).toNatClampNeg) M8) fun v12 M11 => (if v9 = v12 then (b_Law_law_1517 G k23 l1 l2 l3 l4 M11) else (some ((0 : Int32), M11))) else none else none) else none else none, if ib (l4 + (1 : Int32)) (gL G) = true then if ib (l4 + (2 : Int32)) (gL G) = true then if gx G (l4 + (2 : Int32)).toNatClampNeg = 0 then (b_Law_law_296 G k23 l1 l2 l3 l4 l1 (gx G (l4 + (1 : Int32)).toNatClampNeg) (0 : Int32) M) else (b_Law_law_296 G k23 l1 l2 l3 l4 l1 (gx G (l4 + (1 : Int32)).toNatClampNeg) (1 : Int32) M) else none else none, if ib (l4 + (1 : Int32)) (gL G) = true then if hT M l1 = 10 then bI (f_PF_letter G l1 (gx G (l4 + (1 : Int32)).toNatClampNeg) M) fun v15 M14 => (if ib (l4 + (1 : Int32)) (gL G) = true then if hT M14 l2 = 11 then bI (f_Mo_letter G l2 (gx G (l4 + (1 : Int32)).toNatClampNeg) M14) fun v18 M17 => (if v15 = v18 then (b_Law_law_1517 G k23 l1 l2 l3 l4 M17) else (some ((0 : Int32), M17))) else none else none) else none else none, bI (f_Law_begin G l1 l3 M) fun v20 M19 => (if hT M19 l2 = 11 then bI (f_Mo_begin G l2 M19) fun v23 M22 => (if hT M22 l2 = 11 then bI (f_Mo_thrown G l2 M22) fun v26 M25 => (if v26 = v20 then (if ¬ v20 = 0 then (b_Law_law_394 G k23 l1 l2 l3 l4 M25) else (if hT M25 l3 = 19 then if 0 < hN M25 l3 then if lg_cmp (hL M25 l3 0) v23.toInt64 = 0 then (b_Law_law_394 G k23 l1 l2 l3 l4 M25) else (some ((0 : Int32), M25)) else none else none)) else (some ((0 : Int32), M25))) else none) else none), bI (f_Law_end G l1 l3 M) fun v29 M28 => (if hT M28 l2 = 11 then bI (f_Mo_end G l2 M28) fun v32 M31 => (if hT M31 l2 = 11 then bI (f_Mo_thrown G l2 M31) fun v35 M34 => (if v35 = v29 then (if ¬ v29 = 0 then (b_Law_law_438 G k23 l1 l2 l3 l4 M34) else (if hT M34 l3 = 19 then if 0 < hN M34 l3 then if lg_cmp (hL M34 l3 0) v32.toInt64 = 0 then (b_Law_law_438 G k23 l1 l2 l3 l4 M34) else (some ((0 : Int32), M34)) else none else none)) else (some ((0 : Int32), M34))) else none) else none), if ib (l4 + (1 : Int32)) (gL G) = true then if ib (l4 + (2 : Int32)) (gL G) = true then if ib (l4 + (3 : Int32)) (gL G) = true then if ib (l4 + (4 : Int32)) (gL G) = true then if ib (l4 + (5 : Int32)) (gL G) = true then bI (f_Law_window G l1 (gx G (l4 + (1 : Int32)).toNatClampNeg) (gx G (l4 + (2 : Int32)).toNatClampNeg) (gx G (l4 + (3 : Int32)).toNatClampNeg) (gx G (l4 + (4 : Int32)).toNatClampNeg) (gx G (l4 + (5 : Int32)).toNatClampNeg) l3 M) fun v38 M37 => (if ib (l4 + (1 : Int32)) (gL G) = true then if ib (l4 + (2 : Int32)) (gL G) = true then if ib (l4 + (3 : Int32)) (gL G) = true then if ib (l4 + (4 : Int32)) (gL G) = true then if ib (l4 + (5 : Int32)) (gL G) = true then if hT M37 l2 = 11 then bI (f_Mo_window G l2 (gx G (l4 + (1 : Int32)).toNatClampNeg) (gx G (l4 + (2 : Int32)).toNatClampNeg) (gx G (l4 + (3 : Int32)).toNatClampNeg) (gx G (l4 + (4 : Int32)).toNatClampNeg) (gx G (l4 + (5 : Int32)).toNatClampNeg) M37) fun v41 M40 => (if hT M40 l2 = 11 then bI (f_Mo_thrown G l2 M40) fun v44 M43 => (if v44 = v38 then (if ¬ v38 = 0 then (b_Law_law_549 G k23 l1 l2 l3 l4 M43) else (if hT M43 l3 = 19 then if 0 < hN M43 l3 then if v41 = 0 then (b_Law_law_543 G k23 l1 l2 l3 l4 (hL M43 l3 0) (0 : Int64) M43) else (b_Law_law_543 G k23 l1 l2 l3 l4 (hL M43 l3 0) (1 : Int64) M43) else none else none)) else (some ((0 : Int32), M43))) else none) else none else none else none else none else none else none) else none else none else none else none else none, if ib (l4 + (1 : Int32)) (gL G) = true then bI (f_Law_open G l1 (gx G (l4 + (1 : Int32)).toNatClampNeg) l3 M) fun v47 M46 => (if ib (l4 + (1 : Int32)) (gL G) = true then if hT M46 l2 = 11 then bI (f_Mo_open G l2 (gx G (l4 + (1 : Int32)).toNatClampNeg) M46) fun v50 M49 => (if hT M49 l2 = 11 then bI (f_Mo_thrown G l2 M49) fun v53 M52 => (if v53 = v47 then (if ¬ v47 = 0 then (b_Law_law_612 G k23 l1 l2 l3 l4 M52) else (if hT M52 l3 = 19 then if 0 < hN M52 l3 then if v50 = 0 then (b_Law_law_606 G k23 l1 l2 l3 l4 (hL M52 l3 0) (0 : Int64) M52) else (b_Law_law_606 G k23 l1 l2 l3 l4 (hL M52 l3 0) (1 : Int64) M52) else none else none)) else (some ((0 : Int32), M52))) else none) else none else none) else none, if ib (l4 + (1 : Int32)) (gL G) = true then if ib (l4 + (2 : Int32)) (gL G) = true then if ib (l4 + (3 : Int32)) (gL G) = true then bI (f_Law_popup G l1 (gx G (l4 + (1 : Int32)).toNatClampNeg) (gx G (l4 + (2 : Int32)).toNatClampNeg) (gx G (l4 + (3 : Int32)).toNatClampNeg) l3 M) fun v56 M55 => (if ib (l4 + (1 : Int32)) (gL G) = true then if ib (l4 + (2 : Int32)) (gL G) = true then if ib (l4 + (3 : Int32)) (gL G) = true then if hT M55 l2 = 11 then bI (f_Mo_popup G l2 (gx G (l4 + (1 : Int32)).toNatClampNeg) (gx G (l4 + (2 : Int32)).toNatClampNeg) (gx G (l4 + (3 : Int32)).toNatClampNeg) M55) fun v59 M58 => (if hT M58 l2 = 11 then bI (f_Mo_thrown G l2 M58) fun v62 M61 => (if v62 = v56 then (if ¬ v56 = 0 then (b_Law_law_699 G k23 l1 l2 l3 l4 M61) else (if hT M61 l3 = 19 then if 0 < hN M61 l3 then if v59 = 0 then (b_Law_law_693 G k23 l1 l2 l3 l4 (hL M61 l3 0) (0 : Int64) M61) else (b_Law_law_693 G k23 l1 l2 l3 l4 (hL M61 l3 0) (1 : Int64) M61) else none else none)) else (some ((0 : Int32), M61))) else none) else none else none else none else none) else none else none else none, if hT M l1 = 10 then bI (f_PF_dismiss G l1 M) fun v66 M65 => (if hT M65 l2 = 11 then bI (f_Mo_dismiss G l2 M65) fun v69 M68 => (if v66 = v69 then (b_Law_law_1517 G k23 l1 l2 l3 l4 M68) else (some ((0 : Int32), M68))) else none) else none, bI (f_Law_close G l1 l3 M) fun v71 M70 => (if hT M70 l2 = 11 then bI (f_Mo_close G l2 M70) fun v74 M73 => (if hT M73 l2 = 11 then bI (f_Mo_thrown G l2 M73) fun v77 M76 => (if v77 = v71 then (if ¬ v71 = 0 then (b_Law_law_756 G k23 l1 l2 l3 l4 M76) else (if hT M76 l3 = 19 then if 0 < hN M76 l3 then if lg_cmp (hL M76 l3 0) v74.toInt64 = 0 then (b_Law_law_756 G k23 l1 l2 l3 l4 M76) else (some ((0 : Int32), M76)) else none else none)) else (some ((0 : Int32), M76))) else none) else none), if ib (l4 + (1 : Int32)) (gL G) = true then if ib (l4 + (2 : Int32)) (gL G) = true then bI (f_Law_button G l1 (gx G (l4 + (1 : Int32)).toNatClampNeg) (gx G (l4 + (2 : Int32)).toNatClampNeg) l3 M) fun v80 M79 => (if ib (l4 + (1 : Int32)) (gL G) = true then if ib (l4 + (2 : Int32)) (gL G) = true then if hT M79 l2 = 11 then bI (f_Mo_button G l2 (gx G (l4 + (1 : Int32)).toNatClampNeg) (gx G (l4 + (2 : Int32)).toNatClampNeg) M79) fun v83 M82 => (if hT M82 l2 = 11 then bI (f_Mo_thrown G l2 M82) fun v86 M85 => (if v86 = v80 then (if ¬ v80 = 0 then (b_Law_law_831 G k23 l1 l2 l3 l4 M85) else (if hT M85 l3 = 19 then if 0 < hN M85 l3 then if v83 = 0 then (b_Law_law_825 G k23 l1 l2 l3 l4 (hL M85 l3 0) (0 : Int64) M85) else (b_Law_law_825 G k23 l1 l2 l3 l4 (hL M85 l3 0) (1 : Int64) M85) else none else none)) else (some ((0 : Int32), M85))) else none) else none else none else none) else none else none, if ib (l4 + (1 : Int32)) (gL G) = true then bI (f_Law_check G l1 (gx G (l4 + (1 : Int32)).toNatClampNeg) l3 M) fun v89 M88 => (if ib (l4 + (1 : Int32)) (gL G) = true then if hT M88 l2 = 11 then bI (f_Mo_check G l2 (gx G (l4 + (1 : Int32)).toNatClampNeg) M88) fun v92 M91 => (if hT M91 l2 = 11 then bI (f_Mo_thrown G l2 M91) fun v95 M94 => (if v95 = v89 then (if ¬ v89 = 0 then (b_Law_law_887 G k23 l1 l2 l3 l4 M94) else (if hT M94 l3 = 19 then if 0 < hN M94 l3 then if lg_cmp (hL M94 l3 0) v92.toInt64 = 0 then (b_Law_law_887 G k23 l1 l2 l3 l4 M94) else (some ((0 : Int32), M94)) else none else none)) else (some ((0 : Int32), M94))) else none) else none else none) else none, if ib (l4 + (1 : Int32)) (gL G) = true then if ib (l4 + (2 : Int32)) (gL G) = true then if ib (l4 + (3 : Int32)) (gL G) = true then if ib (l4 + (4 : Int32)) (gL G) = true then bI (f_Law_slider G l1 (gx G (l4 + (1 : Int32)).toNatClampNeg) (gx G (l4 + (2 : Int32)).toNatClampNeg) (gx G (l4 + (3 : Int32)).toNatClampNeg) (gx G (l4 + (4 : Int32)).toNatClampNeg) l3 M) fun v98 M97 => (if ib (l4 + (1 : Int32)) (gL G) = true then if ib (l4 + (2 : Int32)) (gL G) = true then if ib (l4 + (3 : Int32)) (gL G) = true then if ib (l4 + (4 : Int32)) (gL G) = true then if hT M97 l2 = 11 then bI (f_Mo_slider G l2 (gx G (l4 + (1 : Int32)).toNatClampNeg) (gx G (l4 + (2 : Int32)).toNatClampNeg) (gx G (l4 + (3 : Int32)).toNatClampNeg) (gx G (l4 + (4 : Int32)).toNatClampNeg) M97) fun v101 M100 => (if hT M100 l2 = 11 then bI (f_Mo_thrown G l2 M100) fun v104 M103 => (if v104 = v98 then (if ¬ v98 = 0 then (b_Law_law_979 G k23 l1 l2 l3 l4 M103) else (if hT M103 l3 = 19 then if 0 < hN M103 l3 then if lg_cmp (hL M103 l3 0) v101.toInt64 = 0 then (b_Law_law_979 G k23 l1 l2 l3 l4 M103) else (some ((0 : Int32), M103)) else none else none)) else (some ((0 : Int32), M103))) else none) else none else none else none else none else none) else none else none else none else none, if ib (l4 + (1 : Int32)) (gL G) = true then if ib (l4 + (2 : Int32)) (gL G) = true then bI (f_Law_field G l1 (gx G (l4 + (1 : Int32)).toNatClampNeg) (gx G (l4 + (2 : Int32)).toNatClampNeg) l3 M) fun v107 M106 => (if ib (l4 + (1 : Int32)) (gL G) = true then if ib (l4 + (2 : Int32)) (gL G) = true then if hT M106 l2 = 11 then bI (f_Mo_field G l2 (gx G (l4 + (1 : Int32)).toNatClampNeg) (gx G (l4 + (2 : Int32)).toNatClampNeg) M106) fun v110 M109 => (if hT M109 l2 = 11 then bI (f_Mo_thrown G l2 M109) fun v113 M112 => (if v113 = v107 then (if ¬ v107 = 0 then (b_Law_law_1047 G k23 l1 l2 l3 l4 M112) else (if hT M112 l3 = 19 then if 0 < hN M112 l3 then if lg_cmp (hL M112 l3 0) v110.toInt64 = 0 then (b_Law_law_1047 G k23 l1 l2 l3 l4 M112) else (some ((0 : Int32), M112)) else none else none)) else (some ((0 : Int32), M112))) else none) else none else none else none) else none else none, if ib (l4 + (1 : Int32)) (gL G) = true then if ib (l4 + (2 : Int32)) (gL G) = true then bI (f_Law_tree G l1 (gx G (l4 + (1 : Int32)).toNatClampNeg) (gx G (l4 + (2 : Int32)).toNatClampNeg) l3 M) fun v116 M115 => (if ib (l4 + (1 : Int32)) (gL G) = true then if ib (l4 + (2 : Int32)) (gL G) = true then if hT M115 l2 = 11 then bI (f_Mo_tree G l2 (gx G (l4 + (1 : Int32)).toNatClampNeg) (gx G (l4 + (2 : Int32)).toNatClampNeg) M115) fun v119 M118 => (if hT M118 l2 = 11 then bI (f_Mo_thrown G l2 M118) fun v122 M121 => (if v122 = v116 then (if ¬ v116 = 0 then (b_Law_law_1122 G k23 l1 l2 l3 l4 M121) else (if hT M121 l3 = 19 then if 0 < hN M121 l3 then if v119 = 0 then (b_Law_law_1116 G k23 l1 l2 l3 l4 (hL M121 l3 0) (0 : Int64) M121) else (b_Law_law_1116 G k23 l1 l2 l3 l4 (hL M121 l3 0) (1 : Int64) M121) else none else none)) else (some ((0 : Int32), M121))) else none) else none else none else none) else none else none, if ib (l4 + (1 : Int32)) (gL G) = true then if ib (l4 + (2 : Int32)) (gL G) = true then if ib (l4 + (3 : Int32)) (gL G) = true then bI (f_Law_child G l1 (gx G (l4 + (1 : Int32)).toNatClampNeg) (gx G (l4 + (2 : Int32)).toNatClampNeg) (gx G (l4 + (3 : Int32)).toNatClampNeg) M) fun v125 M124 => (if ib (l4 + (1 : Int32)) (gL G) = true then if ib (l4 + (2 : Int32)) (gL G) = true then if ib (l4 + (3 : Int32)) (gL G) = true then if hT M124 l2 = 11 then bV (f_Mo_child G l2 (gx G (l4 + (1 : Int32)).toNatClampNeg) (gx G (l4 + (2 : Int32)).toNatClampNeg) (gx G (l4 + (3 : Int32)).toNatClampNeg) M124) fun M127 => (if hT M127 l2 = 11 then bI (f_Mo_thrown G l2 M127) fun v130 M129 => (if v130 = v125 then (b_Law_law_1517 G k23 l1 l2 l3 l4 M129) else (some ((0 : Int32), M129))) else none) else none else none else none else none) else none else none else none, if ib (l4 + (1 : Int32)) (gL G) = true then bI (f_Law_scope G l1 (gx G (l4 + (1 : Int32)).toNatClampNeg) M) fun v132 M131 => (if ib (l4 + (1 : Int32)) (gL G) = true then if hT M131 l2 = 11 then bV (f_Mo_scope G l2 (gx G (l4 + (1 : Int32)).toNatClampNeg) M131) fun M134 => (if hT M134 l2 = 11 then bI (f_Mo_thrown G l2 M134) fun v137 M136 => (if v137 = v132 then (b_Law_law_1517 G k23 l1 l2 l3 l4 M136) else (some ((0 : Int32), M136))) else none) else none else none) else none, bI (f_Law_group G l1 M) fun v139 M138 => (if hT M138 l2 = 11 then bV (f_Mo_group G l2 M138) fun M141 => (if hT M141 l2 = 11 then bI (f_Mo_thrown G l2 M141) fun v144 M143 => (if v144 = v139 then (b_Law_law_1517 G k23 l1 l2 l3 l4 M143) else (some ((0 : Int32), M143))) else none) else none), bI (f_Law_near G l1 M) fun v146 M145 => (if hT M145 l2 = 11 then bV (f_Mo_near G l2 M145) fun M148 => (if hT M148 l2 = 11 then bI (f_Mo_thrown G l2 M148) fun v151 M150 => (if v151 = v146 then (b_Law_law_1517 G k23 l1 l2 l3 l4 M150) else (some ((0 : Int32), M150))) else none) else none), if ib (l4 + (1 : Int32)) (gL G) = true then if hT M l1 = 10 then bI (f_PF_look G l1 (gx G (l4 + (1 : Int32)).toNatClampNeg) M) fun v154 M153 => (if ib (l4 + (1 : Int32)) (gL G) = true then if hT M153 l2 = 11 then bI (f_Mo_look G l2 (gx G (l4 + (1 : Int32)).toNatClampNeg) M153) fun v157 M156 => (if v154 = v157 then (b_Law_law_1517 G k23 l1 l2 l3 l4 M156) else (some ((0 : Int32), M156))) else none else none) else none else none, if ib (l4 + (1 : Int32)) (gL G) = true then if ib (l4 + (2 : Int32)) (gL G) = true then if hT M l1 = 10 then bI (f_PF_place G l1 (gx G (l4 + (1 : Int32)).toNatClampNeg) (gx G (l4 + (2 : Int32)).toNatClampNeg) M) fun v160 M159 => (if ib (l4 + (1 : Int32)) (gL G) = true then if ib (l4 + (2 : Int32)) (gL G) = true then if hT M159 l2 = 11 then bI (f_Mo_place G l2 (gx G (l4 + (1 : Int32)).toNatClampNeg) (gx G (l4 + (2 : Int32)).toNatClampNeg) M159) fun v163 M162 => (if v160 = v163 then (b_Law_law_1517 G k23 l1 l2 l3 l4 M162) else (some ((0 : Int32), M162))) else none else none else none) else none else none else none, if ib (l4 + (1 : Int32)) (gL G) = true then if hT M l1 = 10 then bI (f_PF_kept G l1 (gx G (l4 + (1 : Int32)).toNatClampNeg) M) fun v166 M165 => (if ib (l4 + (1 : Int32)) (gL G) = true then if hT M165 l2 = 11 then bI (f_Mo_kept G l2 (gx G (l4 + (1 : Int32)).toNatClampNeg) M165) fun v169 M168 => (if v166 = v169 then (b_Law_law_1517 G k23 l1 l2 l3 l4 M168) else (some ((0 : Int32), M168))) else none else none) else none else none, if ib (l4 + (1 : Int32)) (gL G) = true then if ib (l4 + (2 : Int32)) (gL G) = true then if hT M l1 = 10 then bI (f_PF_text G l1 (gx G (l4 + (1 : Int32)).toNatClampNeg) (gx G (l4 + (2 : Int32)).toNatClampNeg) M) fun v172 M171 => (if ib (l4 + (1 : Int32)) (gL G) = true then if ib (l4 + (2 : Int32)) (gL G) = true then if hT M171 l2 = 11 then bI (f_Mo_text G l2 (gx G (l4 + (1 : Int32)).toNatClampNeg) (gx G (l4 + (2 : Int32)).toNatClampNeg) M171) fun v175 M174 => (if v172 = v175 then (b_Law_law_1517 G k23 l1 l2 l3 l4 M174) else (some ((0 : Int32), M174))) else none else none else none) else none else none else none, if ib (l4 + (1 : Int32)) (gL G) = true then if hT M l1 = 10 then bI (f_PF_drawn G l1 (gx G (l4 + (1 : Int32)).toNatClampNeg) M) fun v178 M177 => (if ib (l4 + (1 : Int32)) (gL G) = true then if hT M177 l2 = 11 then bI (f_Mo_drawn G l2 (gx G (l4 + (1 : Int32)).toNatClampNeg) M177) fun v181 M180 => (if v178 = v181 then (b_Law_law_1517 G k23 l1 l2 l3 l4 M180) else (some ((0 : Int32), M180))) else none else none) else none else none, if ib (l4 + (1 : Int32)) (gL G) = true then if ib (l4 + (2 : Int32)) (gL G) = true then if hT M l1 = 10 then bI (f_PF_command G l1 (gx G (l4 + (1 : Int32)).toNatClampNeg) (gx G (l4 + (2 : Int32)).toNatClampNeg) M) fun v184 M183 => (if ib (l4 + (1 : Int32)) (gL G) = true then if ib (l4 + (2 : Int32)) (gL G) = true then if hT M183 l2 = 11 then bI (f_Mo_command G l2 (gx G (l4 + (1 : Int32)).toNatClampNeg) (gx G (l4 + (2 : Int32)).toNatClampNeg) M183) fun v187 M186 => (if v184 = v187 then (b_Law_law_1517 G k23 l1 l2 l3 l4 M186) else (some ((0 : Int32), M186))) else none else none else none) else none else none else none, if ib (l4 + (1 : Int32)) (gL G) = true then if hT M l1 = 10 then bI (f_PF_index G l1 (gx G (l4 + (1 : Int32)).toNatClampNeg) M) fun v190 M189 => (if ib (l4 + (1 : Int32)) (gL G) = true then if hT M189 l2 = 11 then bI (f_Mo_index G l2 (gx G (l4 + (1 : Int32)).toNatClampNeg) M189) fun v193 M192 => (if v190 = v193 then (b_Law_law_1517 G k23 l1 l2 l3 l4 M192) else (some ((0 : Int32), M192))) else none else none) else none else none, if ib (l4 + (1 : Int32)) (gL G) = true then if ib (l4 + (2 : Int32)) (gL G) = true then if hT M l1 = 10 then bI (f_PF_vertex G l1 (gx G (l4 + (1 : Int32)).toNatClampNeg) (gx G (l4 + (2 : Int32)).toNatClampNeg) M) fun v196 M195 => (if ib (l4 + (1 : Int32)) (gL G) = true then if ib (l4 + (2 : Int32)) (gL G) = true then if hT M195 l2 = 11 then bI (f_Mo_vertex G l2 (gx G (l4 + (1 : Int32)).toNatClampNeg) (gx G (l4 + (2 : Int32)).toNatClampNeg) M195) fun v199 M198 => (if v196 = v199 then (b_Law_law_1517 G k23 l1 l2 l3 l4 M198) else (some ((0 : Int32), M198))) else none else none else none) else none else none else none] (b_Law_law_1517 G k23 l1 l2 l3 l4 M) else none)
set_option maxRecDepth 100000 in
set_option maxHeartbeats 4000000 in
theorem t_Law_law_23 {G : GT} {k23 : Nat → Nat → Nat → Int32 → PH → Option (Int32 × PH)} (hk23 : ∀ (l1 : Nat) (l2 : Nat) (l3 : Nat) (l4 : Int32) (M : PH), VX G mi_Law_law 10 147 23 [some (.ref (gb G)), some (.ref l1), some (.ref l2), some (.ref l3), some (.int l4), none, none] [] M qI (k23 l1 l2 l3 l4 M)) (l1 : Nat) (l2 : Nat) (l3 : Nat) (l4 : Int32) (M : PH) : VX G mi_Law_law 10 147 23 [some (.ref (gb G)), some (.ref l1), some (.ref l2), some (.ref l3), some (.int l4), none, none] [] M qI (b_Law_law_23 G k23 l1 l2 l3 l4 M) := by
  unfold b_Law_law_23
  refine V_open ok_Law_law_23 ?_
  refine B_iload rfl ?_
  refine B_aload_n rfl ?_
  refine B_slen ?_
  refine B_bipush (6 : Int32) bp_6 ?_
  refine B_isub ?_
  refine B_igt (tgt := 1523) (by decide) ?_ ?_
  · skip
    refine V_open ok_Law_law_1523 ?_
    refine B_iconst (1 : Int32) ic_1 ?_
    exact Z_ret rfl (Or.inr rfl)
  · skip
    refine B_aload_n rfl ?_
    refine B_iload rfl ?_
    refine B_sld ?_
    refine B_bipush (31 : Int32) bp_31 ?_
    refine B_iand ?_
    refine B_tsw [172, 209, 250, 275, 328, 353, 397, 441, 552, 615, 702, 715, 759, 834, 890, 982, 1050, 1125, 1185, 1221, 1245, 1269, 1294, 1331, 1356, 1393, 1418, 1455, 1480] 1517 (by decide) (by decide) (by decide) ?_ ⟨?_, ?_, ?_, ?_, ?_, ?_, ?_, ?_, ?_, ?_, ?_, ?_, ?_, ?_, ?_, ?_, ?_, ?_, ?_, ?_, ?_, ?_, ?_, ?_, ?_, ?_, ?_, ?_, ?_, trivial⟩
    · skip
      exact V_weak (ls' := [some (.ref (gb G)), some (.ref l1), some (.ref l2), some (.ref l3), some (.int l4), none, none]) ⟨rfl, ⟨rfl, ⟨rfl, ⟨rfl, ⟨rfl, trivial⟩⟩⟩⟩⟩ (t_Law_law_1517 hk23 l1 l2 l3 l4 M)
    · skip
      refine V_open ok_Law_law_172 ?_
      refine B_aload_n rfl ?_
      refine B_aload_n rfl ?_
      refine B_iload rfl ?_
      refine B_iconst (1 : Int32) ic_1 ?_
      refine B_iadd ?_
      refine B_sld ?_
      refine B_aload_n rfl ?_
      refine B_iload rfl ?_
      refine B_iconst (2 : Int32) ic_2 ?_
      refine B_iadd ?_
      refine B_sld ?_
      refine B_chk (fun t1 => ?_)
      refine C_I (vs := [.ref l1, .int (gx G (l4 + (1 : Int32)).toNatClampNeg), .int (gx G (l4 + (2 : Int32)).toNatClampNeg)]) (st := []) (ci_V lv_Law_72 rfl rfl t1) rfl rfl rfl (s_PF_point l1 (gx G (l4 + (1 : Int32)).toNatClampNeg) (gx G (l4 + (2 : Int32)).toNatClampNeg) M) (fun v3 M2 => ?_)
      refine B_aload_n rfl ?_
      refine B_aload_n rfl ?_
      refine B_iload rfl ?_
      refine B_iconst (1 : Int32) ic_1 ?_
      refine B_iadd ?_
      refine B_sld ?_
      refine B_aload_n rfl ?_
      refine B_iload rfl ?_
      refine B_iconst (2 : Int32) ic_2 ?_
      refine B_iadd ?_
      refine B_sld ?_
      refine B_chk (fun t4 => ?_)
      refine C_I (vs := [.ref l2, .int (gx G (l4 + (1 : Int32)).toNatClampNeg), .int (gx G (l4 + (2 : Int32)).toNatClampNeg)]) (st := [.int v3]) (ci_V lv_Law_75 rfl rfl t4) rfl rfl rfl (s_Mo_point l2 (gx G (l4 + (1 : Int32)).toNatClampNeg) (gx G (l4 + (2 : Int32)).toNatClampNeg) M2) (fun v6 M5 => ?_)
      refine B_ieq (tgt := 1517) (by decide) ?_ ?_
      · skip
        exact V_weak (ls' := [some (.ref (gb G)), some (.ref l1), some (.ref l2), some (.ref l3), some (.int l4), none, none]) ⟨rfl, ⟨rfl, ⟨rfl, ⟨rfl, ⟨rfl, trivial⟩⟩⟩⟩⟩ (t_Law_law_1517 hk23 l1 l2 l3 l4 M5)
      · skip
        refine B_iconst (0 : Int32) ic_0 ?_
        exact Z_ret rfl (Or.inl rfl)
    · skip
      refine V_open ok_Law_law_209 ?_
      refine B_aload_n rfl ?_
      refine B_aload_n rfl ?_
      refine B_iload rfl ?_
      refine B_iconst (1 : Int32) ic_1 ?_
      refine B_iadd ?_
      refine B_sld ?_
      refine B_eq (tgt := 223) (by decide) ?_ ?_
      · skip
        refine V_open ok_Law_law_223 ?_
        refine B_iconst (0 : Int32) ic_0 ?_
        refine V_close ?_
        exact V_weak (ls' := [some (.ref (gb G)), some (.ref l1), some (.ref l2), some (.ref l3), some (.int l4), none, none]) ⟨rfl, ⟨rfl, ⟨rfl, ⟨rfl, ⟨rfl, trivial⟩⟩⟩⟩⟩ (t_Law_law_224 hk23 l1 l2 l3 l4 l1 (0 : Int32) M)
      · skip
        refine B_iconst (1 : Int32) ic_1 ?_
        refine B_goto (tgt := 224) (by decide) ?_
        exact V_weak (ls' := [some (.ref (gb G)), some (.ref l1), some (.ref l2), some (.ref l3), some (.int l4), none, none]) ⟨rfl, ⟨rfl, ⟨rfl, ⟨rfl, ⟨rfl, trivial⟩⟩⟩⟩⟩ (t_Law_law_224 hk23 l1 l2 l3 l4 l1 (1 : Int32) M)
    · skip
      refine V_open ok_Law_law_250 ?_
      refine B_aload_n rfl ?_
      refine B_aload_n rfl ?_
      refine B_iload rfl ?_
      refine B_iconst (1 : Int32) ic_1 ?_
      refine B_iadd ?_
      refine B_sld ?_
      refine B_chk (fun t7 => ?_)
      refine C_I (vs := [.ref l1, .int (gx G (l4 + (1 : Int32)).toNatClampNeg)]) (st := []) (ci_V lv_Law_81 rfl rfl t7) rfl rfl rfl (s_PF_wheel l1 (gx G (l4 + (1 : Int32)).toNatClampNeg) M) (fun v9 M8 => ?_)
      refine B_aload_n rfl ?_
      refine B_aload_n rfl ?_
      refine B_iload rfl ?_
      refine B_iconst (1 : Int32) ic_1 ?_
      refine B_iadd ?_
      refine B_sld ?_
      refine B_chk (fun t10 => ?_)
      refine C_I (vs := [.ref l2, .int (gx G (l4 + (1 : Int32)).toNatClampNeg)]) (st := [.int v9]) (ci_V lv_Law_84 rfl rfl t10) rfl rfl rfl (s_Mo_wheel l2 (gx G (l4 + (1 : Int32)).toNatClampNeg) M8) (fun v12 M11 => ?_)
      refine B_ieq (tgt := 1517) (by decide) ?_ ?_
      · skip
        exact V_weak (ls' := [some (.ref (gb G)), some (.ref l1), some (.ref l2), some (.ref l3), some (.int l4), none, none]) ⟨rfl, ⟨rfl, ⟨rfl, ⟨rfl, ⟨rfl, trivial⟩⟩⟩⟩⟩ (t_Law_law_1517 hk23 l1 l2 l3 l4 M11)
      · skip
        refine B_iconst (0 : Int32) ic_0 ?_
        exact Z_ret rfl (Or.inl rfl)
    · skip
      refine V_open ok_Law_law_275 ?_
      refine B_aload_n rfl ?_
      refine B_aload_n rfl ?_
      refine B_iload rfl ?_
      refine B_iconst (1 : Int32) ic_1 ?_
      refine B_iadd ?_
      refine B_sld ?_
      refine B_aload_n rfl ?_
      refine B_iload rfl ?_
      refine B_iconst (2 : Int32) ic_2 ?_
      refine B_iadd ?_
      refine B_sld ?_
      refine B_eq (tgt := 295) (by decide) ?_ ?_
      · skip
        refine V_open ok_Law_law_295 ?_
        refine B_iconst (0 : Int32) ic_0 ?_
        refine V_close ?_
        exact V_weak (ls' := [some (.ref (gb G)), some (.ref l1), some (.ref l2), some (.ref l3), some (.int l4), none, none]) ⟨rfl, ⟨rfl, ⟨rfl, ⟨rfl, ⟨rfl, trivial⟩⟩⟩⟩⟩ (t_Law_law_296 hk23 l1 l2 l3 l4 l1 (gx G (l4 + (1 : Int32)).toNatClampNeg) (0 : Int32) M)
      · skip
        refine B_iconst (1 : Int32) ic_1 ?_
        refine B_goto (tgt := 296) (by decide) ?_
        exact V_weak (ls' := [some (.ref (gb G)), some (.ref l1), some (.ref l2), some (.ref l3), some (.int l4), none, none]) ⟨rfl, ⟨rfl, ⟨rfl, ⟨rfl, ⟨rfl, trivial⟩⟩⟩⟩⟩ (t_Law_law_296 hk23 l1 l2 l3 l4 l1 (gx G (l4 + (1 : Int32)).toNatClampNeg) (1 : Int32) M)
    · skip
      refine V_open ok_Law_law_328 ?_
      refine B_aload_n rfl ?_
      refine B_aload_n rfl ?_
      refine B_iload rfl ?_
      refine B_iconst (1 : Int32) ic_1 ?_
      refine B_iadd ?_
      refine B_sld ?_
      refine B_chk (fun t13 => ?_)
      refine C_I (vs := [.ref l1, .int (gx G (l4 + (1 : Int32)).toNatClampNeg)]) (st := []) (ci_V lv_Law_90 rfl rfl t13) rfl rfl rfl (s_PF_letter l1 (gx G (l4 + (1 : Int32)).toNatClampNeg) M) (fun v15 M14 => ?_)
      refine B_aload_n rfl ?_
      refine B_aload_n rfl ?_
      refine B_iload rfl ?_
      refine B_iconst (1 : Int32) ic_1 ?_
      refine B_iadd ?_
      refine B_sld ?_
      refine B_chk (fun t16 => ?_)
      refine C_I (vs := [.ref l2, .int (gx G (l4 + (1 : Int32)).toNatClampNeg)]) (st := [.int v15]) (ci_V lv_Law_93 rfl rfl t16) rfl rfl rfl (s_Mo_letter l2 (gx G (l4 + (1 : Int32)).toNatClampNeg) M14) (fun v18 M17 => ?_)
      refine B_ieq (tgt := 1517) (by decide) ?_ ?_
      · skip
        exact V_weak (ls' := [some (.ref (gb G)), some (.ref l1), some (.ref l2), some (.ref l3), some (.int l4), none, none]) ⟨rfl, ⟨rfl, ⟨rfl, ⟨rfl, ⟨rfl, trivial⟩⟩⟩⟩⟩ (t_Law_law_1517 hk23 l1 l2 l3 l4 M17)
      · skip
        refine B_iconst (0 : Int32) ic_0 ?_
        exact Z_ret rfl (Or.inl rfl)
    · skip
      refine V_open ok_Law_law_353 ?_
      refine B_aload_n rfl ?_
      refine B_aload_n rfl ?_
      refine C_I (vs := [.ref l1, .ref l3]) (st := []) (ci_S ls_Law_94 rfl) rfl rfl rfl (s_Law_begin l1 l3 M) (fun v20 M19 => ?_)
      refine S_i [some (.ref (gb G)), some (.ref l1), some (.ref l2), some (.ref l3), some (.int l4), some (.int v20), none] (by decide) rfl ?_
      refine B_aload_n rfl ?_
      refine B_chk (fun t21 => ?_)
      refine C_I (vs := [.ref l2]) (st := []) (ci_V lv_Law_99 rfl rfl t21) rfl rfl rfl (s_Mo_begin l2 M19) (fun v23 M22 => ?_)
      refine S_i [some (.ref (gb G)), some (.ref l1), some (.ref l2), some (.ref l3), some (.int l4), some (.int v20), some (.int v23)] (by decide) rfl ?_
      refine B_aload_n rfl ?_
      refine B_chk (fun t24 => ?_)
      refine C_I (vs := [.ref l2]) (st := []) (ci_V lv_Law_100 rfl rfl t24) rfl rfl rfl (s_Mo_thrown l2 M22) (fun v26 M25 => ?_)
      refine B_iload rfl ?_
      refine B_ieq (tgt := 377) (by decide) ?_ ?_
      · skip
        refine V_open ok_Law_law_377 ?_
        refine B_iload rfl ?_
        refine B_ne (tgt := 394) (by decide) ?_ ?_
        · skip
          exact V_weak (ls' := [some (.ref (gb G)), some (.ref l1), some (.ref l2), some (.ref l3), some (.int l4), none, none]) ⟨rfl, ⟨rfl, ⟨rfl, ⟨rfl, ⟨rfl, trivial⟩⟩⟩⟩⟩ (t_Law_law_394 hk23 l1 l2 l3 l4 M25)
        · skip
          refine B_aload_n rfl ?_
          refine B_iconst (0 : Int32) ic_0 ?_
          refine B_chk (fun t27 => ?_)
          refine K_laldc 0 rfl t27 ?_
          refine B_iload rfl ?_
          refine B_i2l ?_
          refine B_lcmp ?_
          refine B_eq (tgt := 394) (by decide) ?_ ?_
          · skip
            exact V_weak (ls' := [some (.ref (gb G)), some (.ref l1), some (.ref l2), some (.ref l3), some (.int l4), none, none]) ⟨rfl, ⟨rfl, ⟨rfl, ⟨rfl, ⟨rfl, trivial⟩⟩⟩⟩⟩ (t_Law_law_394 hk23 l1 l2 l3 l4 M25)
          · skip
            refine B_iconst (0 : Int32) ic_0 ?_
            exact Z_ret rfl (Or.inl rfl)
      · skip
        refine B_iconst (0 : Int32) ic_0 ?_
        exact Z_ret rfl (Or.inl rfl)
    · skip
      refine V_open ok_Law_law_397 ?_
      refine B_aload_n rfl ?_
      refine B_aload_n rfl ?_
      refine C_I (vs := [.ref l1, .ref l3]) (st := []) (ci_S ls_Law_103 rfl) rfl rfl rfl (s_Law_end l1 l3 M) (fun v29 M28 => ?_)
      refine S_i [some (.ref (gb G)), some (.ref l1), some (.ref l2), some (.ref l3), some (.int l4), some (.int v29), none] (by decide) rfl ?_
      refine B_aload_n rfl ?_
      refine B_chk (fun t30 => ?_)
      refine C_I (vs := [.ref l2]) (st := []) (ci_V lv_Law_105 rfl rfl t30) rfl rfl rfl (s_Mo_end l2 M28) (fun v32 M31 => ?_)
      refine S_i [some (.ref (gb G)), some (.ref l1), some (.ref l2), some (.ref l3), some (.int l4), some (.int v29), some (.int v32)] (by decide) rfl ?_
      refine B_aload_n rfl ?_
      refine B_chk (fun t33 => ?_)
      refine C_I (vs := [.ref l2]) (st := []) (ci_V lv_Law_100 rfl rfl t33) rfl rfl rfl (s_Mo_thrown l2 M31) (fun v35 M34 => ?_)
      refine B_iload rfl ?_
      refine B_ieq (tgt := 421) (by decide) ?_ ?_
      · skip
        refine V_open ok_Law_law_421 ?_
        refine B_iload rfl ?_
        refine B_ne (tgt := 438) (by decide) ?_ ?_
        · skip
          exact V_weak (ls' := [some (.ref (gb G)), some (.ref l1), some (.ref l2), some (.ref l3), some (.int l4), none, none]) ⟨rfl, ⟨rfl, ⟨rfl, ⟨rfl, ⟨rfl, trivial⟩⟩⟩⟩⟩ (t_Law_law_438 hk23 l1 l2 l3 l4 M34)
        · skip
          refine B_aload_n rfl ?_
          refine B_iconst (0 : Int32) ic_0 ?_
          refine B_chk (fun t36 => ?_)
          refine K_laldc 0 rfl t36 ?_
          refine B_iload rfl ?_
          refine B_i2l ?_
          refine B_lcmp ?_
          refine B_eq (tgt := 438) (by decide) ?_ ?_
          · skip
            exact V_weak (ls' := [some (.ref (gb G)), some (.ref l1), some (.ref l2), some (.ref l3), some (.int l4), none, none]) ⟨rfl, ⟨rfl, ⟨rfl, ⟨rfl, ⟨rfl, trivial⟩⟩⟩⟩⟩ (t_Law_law_438 hk23 l1 l2 l3 l4 M34)
          · skip
            refine B_iconst (0 : Int32) ic_0 ?_
            exact Z_ret rfl (Or.inl rfl)
      · skip
        refine B_iconst (0 : Int32) ic_0 ?_
        exact Z_ret rfl (Or.inl rfl)
    · skip
      refine V_open ok_Law_law_441 ?_
      refine B_aload_n rfl ?_
      refine B_aload_n rfl ?_
      refine B_iload rfl ?_
      refine B_iconst (1 : Int32) ic_1 ?_
      refine B_iadd ?_
      refine B_sld ?_
      refine B_aload_n rfl ?_
      refine B_iload rfl ?_
      refine B_iconst (2 : Int32) ic_2 ?_
      refine B_iadd ?_
      refine B_sld ?_
      refine B_aload_n rfl ?_
      refine B_iload rfl ?_
      refine B_iconst (3 : Int32) ic_3 ?_
      refine B_iadd ?_
      refine B_sld ?_
      refine B_aload_n rfl ?_
      refine B_iload rfl ?_
      refine B_iconst (4 : Int32) ic_4 ?_
      refine B_iadd ?_
      refine B_sld ?_
      refine B_aload_n rfl ?_
      refine B_iload rfl ?_
      refine B_iconst (5 : Int32) ic_5 ?_
      refine B_iadd ?_
      refine B_sld ?_
      refine B_aload_n rfl ?_
      refine C_I (vs := [.ref l1, .int (gx G (l4 + (1 : Int32)).toNatClampNeg), .int (gx G (l4 + (2 : Int32)).toNatClampNeg), .int (gx G (l4 + (3 : Int32)).toNatClampNeg), .int (gx G (l4 + (4 : Int32)).toNatClampNeg), .int (gx G (l4 + (5 : Int32)).toNatClampNeg), .ref l3]) (st := []) (ci_S ls_Law_106 rfl) rfl rfl rfl (s_Law_window l1 (gx G (l4 + (1 : Int32)).toNatClampNeg) (gx G (l4 + (2 : Int32)).toNatClampNeg) (gx G (l4 + (3 : Int32)).toNatClampNeg) (gx G (l4 + (4 : Int32)).toNatClampNeg) (gx G (l4 + (5 : Int32)).toNatClampNeg) l3 M) (fun v38 M37 => ?_)
      refine S_i [some (.ref (gb G)), some (.ref l1), some (.ref l2), some (.ref l3), some (.int l4), some (.int v38), none] (by decide) rfl ?_
      refine B_aload_n rfl ?_
      refine B_aload_n rfl ?_
      refine B_iload rfl ?_
      refine B_iconst (1 : Int32) ic_1 ?_
      refine B_iadd ?_
      refine B_sld ?_
      refine B_aload_n rfl ?_
      refine B_iload rfl ?_
      refine B_iconst (2 : Int32) ic_2 ?_
      refine B_iadd ?_
      refine B_sld ?_
      refine B_aload_n rfl ?_
      refine B_iload rfl ?_
      refine B_iconst (3 : Int32) ic_3 ?_
      refine B_iadd ?_
      refine B_sld ?_
      refine B_aload_n rfl ?_
      refine B_iload rfl ?_
      refine B_iconst (4 : Int32) ic_4 ?_
      refine B_iadd ?_
      refine B_sld ?_
      refine B_aload_n rfl ?_
      refine B_iload rfl ?_
      refine B_iconst (5 : Int32) ic_5 ?_
      refine B_iadd ?_
      refine B_sld ?_
      refine B_chk (fun t39 => ?_)
      refine C_I (vs := [.ref l2, .int (gx G (l4 + (1 : Int32)).toNatClampNeg), .int (gx G (l4 + (2 : Int32)).toNatClampNeg), .int (gx G (l4 + (3 : Int32)).toNatClampNeg), .int (gx G (l4 + (4 : Int32)).toNatClampNeg), .int (gx G (l4 + (5 : Int32)).toNatClampNeg)]) (st := []) (ci_V lv_Law_109 rfl rfl t39) rfl rfl rfl (s_Mo_window l2 (gx G (l4 + (1 : Int32)).toNatClampNeg) (gx G (l4 + (2 : Int32)).toNatClampNeg) (gx G (l4 + (3 : Int32)).toNatClampNeg) (gx G (l4 + (4 : Int32)).toNatClampNeg) (gx G (l4 + (5 : Int32)).toNatClampNeg) M37) (fun v41 M40 => ?_)
      refine S_i [some (.ref (gb G)), some (.ref l1), some (.ref l2), some (.ref l3), some (.int l4), some (.int v38), some (.int v41)] (by decide) rfl ?_
      refine B_aload_n rfl ?_
      refine B_chk (fun t42 => ?_)
      refine C_I (vs := [.ref l2]) (st := []) (ci_V lv_Law_100 rfl rfl t42) rfl rfl rfl (s_Mo_thrown l2 M40) (fun v44 M43 => ?_)
      refine B_iload rfl ?_
      refine B_ieq (tgt := 525) (by decide) ?_ ?_
      · skip
        refine V_open ok_Law_law_525 ?_
        refine B_iload rfl ?_
        refine B_ne (tgt := 549) (by decide) ?_ ?_
        · skip
          exact V_weak (ls' := [some (.ref (gb G)), some (.ref l1), some (.ref l2), some (.ref l3), some (.int l4), none, none]) ⟨rfl, ⟨rfl, ⟨rfl, ⟨rfl, ⟨rfl, trivial⟩⟩⟩⟩⟩ (t_Law_law_549 hk23 l1 l2 l3 l4 M43)
        · skip
          refine B_aload_n rfl ?_
          refine B_iconst (0 : Int32) ic_0 ?_
          refine B_chk (fun t45 => ?_)
          refine K_laldc 0 rfl t45 ?_
          refine B_iload rfl ?_
          refine B_eq (tgt := 542) (by decide) ?_ ?_
          · skip
            refine V_open ok_Law_law_542 ?_
            refine B_lconst (0 : Int64) lc_0 ?_
            refine V_close ?_
            exact V_weak (ls' := [some (.ref (gb G)), some (.ref l1), some (.ref l2), some (.ref l3), some (.int l4), none, none]) ⟨rfl, ⟨rfl, ⟨rfl, ⟨rfl, ⟨rfl, trivial⟩⟩⟩⟩⟩ (t_Law_law_543 hk23 l1 l2 l3 l4 (hL M43 l3 0) (0 : Int64) M43)
          · skip
            refine B_lconst (1 : Int64) lc_1 ?_
            refine B_goto (tgt := 543) (by decide) ?_
            exact V_weak (ls' := [some (.ref (gb G)), some (.ref l1), some (.ref l2), some (.ref l3), some (.int l4), none, none]) ⟨rfl, ⟨rfl, ⟨rfl, ⟨rfl, ⟨rfl, trivial⟩⟩⟩⟩⟩ (t_Law_law_543 hk23 l1 l2 l3 l4 (hL M43 l3 0) (1 : Int64) M43)
      · skip
        refine B_iconst (0 : Int32) ic_0 ?_
        exact Z_ret rfl (Or.inl rfl)
    · skip
      refine V_open ok_Law_law_552 ?_
      refine B_aload_n rfl ?_
      refine B_aload_n rfl ?_
      refine B_iload rfl ?_
      refine B_iconst (1 : Int32) ic_1 ?_
      refine B_iadd ?_
      refine B_sld ?_
      refine B_aload_n rfl ?_
      refine C_I (vs := [.ref l1, .int (gx G (l4 + (1 : Int32)).toNatClampNeg), .ref l3]) (st := []) (ci_S ls_Law_110 rfl) rfl rfl rfl (s_Law_open l1 (gx G (l4 + (1 : Int32)).toNatClampNeg) l3 M) (fun v47 M46 => ?_)
      refine S_i [some (.ref (gb G)), some (.ref l1), some (.ref l2), some (.ref l3), some (.int l4), some (.int v47), none] (by decide) rfl ?_
      refine B_aload_n rfl ?_
      refine B_aload_n rfl ?_
      refine B_iload rfl ?_
      refine B_iconst (1 : Int32) ic_1 ?_
      refine B_iadd ?_
      refine B_sld ?_
      refine B_chk (fun t48 => ?_)
      refine C_I (vs := [.ref l2, .int (gx G (l4 + (1 : Int32)).toNatClampNeg)]) (st := []) (ci_V lv_Law_113 rfl rfl t48) rfl rfl rfl (s_Mo_open l2 (gx G (l4 + (1 : Int32)).toNatClampNeg) M46) (fun v50 M49 => ?_)
      refine S_i [some (.ref (gb G)), some (.ref l1), some (.ref l2), some (.ref l3), some (.int l4), some (.int v47), some (.int v50)] (by decide) rfl ?_
      refine B_aload_n rfl ?_
      refine B_chk (fun t51 => ?_)
      refine C_I (vs := [.ref l2]) (st := []) (ci_V lv_Law_100 rfl rfl t51) rfl rfl rfl (s_Mo_thrown l2 M49) (fun v53 M52 => ?_)
      refine B_iload rfl ?_
      refine B_ieq (tgt := 588) (by decide) ?_ ?_
      · skip
        refine V_open ok_Law_law_588 ?_
        refine B_iload rfl ?_
        refine B_ne (tgt := 612) (by decide) ?_ ?_
        · skip
          exact V_weak (ls' := [some (.ref (gb G)), some (.ref l1), some (.ref l2), some (.ref l3), some (.int l4), none, none]) ⟨rfl, ⟨rfl, ⟨rfl, ⟨rfl, ⟨rfl, trivial⟩⟩⟩⟩⟩ (t_Law_law_612 hk23 l1 l2 l3 l4 M52)
        · skip
          refine B_aload_n rfl ?_
          refine B_iconst (0 : Int32) ic_0 ?_
          refine B_chk (fun t54 => ?_)
          refine K_laldc 0 rfl t54 ?_
          refine B_iload rfl ?_
          refine B_eq (tgt := 605) (by decide) ?_ ?_
          · skip
            refine V_open ok_Law_law_605 ?_
            refine B_lconst (0 : Int64) lc_0 ?_
            refine V_close ?_
            exact V_weak (ls' := [some (.ref (gb G)), some (.ref l1), some (.ref l2), some (.ref l3), some (.int l4), none, none]) ⟨rfl, ⟨rfl, ⟨rfl, ⟨rfl, ⟨rfl, trivial⟩⟩⟩⟩⟩ (t_Law_law_606 hk23 l1 l2 l3 l4 (hL M52 l3 0) (0 : Int64) M52)
          · skip
            refine B_lconst (1 : Int64) lc_1 ?_
            refine B_goto (tgt := 606) (by decide) ?_
            exact V_weak (ls' := [some (.ref (gb G)), some (.ref l1), some (.ref l2), some (.ref l3), some (.int l4), none, none]) ⟨rfl, ⟨rfl, ⟨rfl, ⟨rfl, ⟨rfl, trivial⟩⟩⟩⟩⟩ (t_Law_law_606 hk23 l1 l2 l3 l4 (hL M52 l3 0) (1 : Int64) M52)
      · skip
        refine B_iconst (0 : Int32) ic_0 ?_
        exact Z_ret rfl (Or.inl rfl)
    · skip
      refine V_open ok_Law_law_615 ?_
      refine B_aload_n rfl ?_
      refine B_aload_n rfl ?_
      refine B_iload rfl ?_
      refine B_iconst (1 : Int32) ic_1 ?_
      refine B_iadd ?_
      refine B_sld ?_
      refine B_aload_n rfl ?_
      refine B_iload rfl ?_
      refine B_iconst (2 : Int32) ic_2 ?_
      refine B_iadd ?_
      refine B_sld ?_
      refine B_aload_n rfl ?_
      refine B_iload rfl ?_
      refine B_iconst (3 : Int32) ic_3 ?_
      refine B_iadd ?_
      refine B_sld ?_
      refine B_aload_n rfl ?_
      refine C_I (vs := [.ref l1, .int (gx G (l4 + (1 : Int32)).toNatClampNeg), .int (gx G (l4 + (2 : Int32)).toNatClampNeg), .int (gx G (l4 + (3 : Int32)).toNatClampNeg), .ref l3]) (st := []) (ci_S ls_Law_114 rfl) rfl rfl rfl (s_Law_popup l1 (gx G (l4 + (1 : Int32)).toNatClampNeg) (gx G (l4 + (2 : Int32)).toNatClampNeg) (gx G (l4 + (3 : Int32)).toNatClampNeg) l3 M) (fun v56 M55 => ?_)
      refine S_i [some (.ref (gb G)), some (.ref l1), some (.ref l2), some (.ref l3), some (.int l4), some (.int v56), none] (by decide) rfl ?_
      refine B_aload_n rfl ?_
      refine B_aload_n rfl ?_
      refine B_iload rfl ?_
      refine B_iconst (1 : Int32) ic_1 ?_
      refine B_iadd ?_
      refine B_sld ?_
      refine B_aload_n rfl ?_
      refine B_iload rfl ?_
      refine B_iconst (2 : Int32) ic_2 ?_
      refine B_iadd ?_
      refine B_sld ?_
      refine B_aload_n rfl ?_
      refine B_iload rfl ?_
      refine B_iconst (3 : Int32) ic_3 ?_
      refine B_iadd ?_
      refine B_sld ?_
      refine B_chk (fun t57 => ?_)
      refine C_I (vs := [.ref l2, .int (gx G (l4 + (1 : Int32)).toNatClampNeg), .int (gx G (l4 + (2 : Int32)).toNatClampNeg), .int (gx G (l4 + (3 : Int32)).toNatClampNeg)]) (st := []) (ci_V lv_Law_117 rfl rfl t57) rfl rfl rfl (s_Mo_popup l2 (gx G (l4 + (1 : Int32)).toNatClampNeg) (gx G (l4 + (2 : Int32)).toNatClampNeg) (gx G (l4 + (3 : Int32)).toNatClampNeg) M55) (fun v59 M58 => ?_)
      refine S_i [some (.ref (gb G)), some (.ref l1), some (.ref l2), some (.ref l3), some (.int l4), some (.int v56), some (.int v59)] (by decide) rfl ?_
      refine B_aload_n rfl ?_
      refine B_chk (fun t60 => ?_)
      refine C_I (vs := [.ref l2]) (st := []) (ci_V lv_Law_100 rfl rfl t60) rfl rfl rfl (s_Mo_thrown l2 M58) (fun v62 M61 => ?_)
      refine B_iload rfl ?_
      refine B_ieq (tgt := 675) (by decide) ?_ ?_
      · skip
        refine V_open ok_Law_law_675 ?_
        refine B_iload rfl ?_
        refine B_ne (tgt := 699) (by decide) ?_ ?_
        · skip
          exact V_weak (ls' := [some (.ref (gb G)), some (.ref l1), some (.ref l2), some (.ref l3), some (.int l4), none, none]) ⟨rfl, ⟨rfl, ⟨rfl, ⟨rfl, ⟨rfl, trivial⟩⟩⟩⟩⟩ (t_Law_law_699 hk23 l1 l2 l3 l4 M61)
        · skip
          refine B_aload_n rfl ?_
          refine B_iconst (0 : Int32) ic_0 ?_
          refine B_chk (fun t63 => ?_)
          refine K_laldc 0 rfl t63 ?_
          refine B_iload rfl ?_
          refine B_eq (tgt := 692) (by decide) ?_ ?_
          · skip
            refine V_open ok_Law_law_692 ?_
            refine B_lconst (0 : Int64) lc_0 ?_
            refine V_close ?_
            exact V_weak (ls' := [some (.ref (gb G)), some (.ref l1), some (.ref l2), some (.ref l3), some (.int l4), none, none]) ⟨rfl, ⟨rfl, ⟨rfl, ⟨rfl, ⟨rfl, trivial⟩⟩⟩⟩⟩ (t_Law_law_693 hk23 l1 l2 l3 l4 (hL M61 l3 0) (0 : Int64) M61)
          · skip
            refine B_lconst (1 : Int64) lc_1 ?_
            refine B_goto (tgt := 693) (by decide) ?_
            exact V_weak (ls' := [some (.ref (gb G)), some (.ref l1), some (.ref l2), some (.ref l3), some (.int l4), none, none]) ⟨rfl, ⟨rfl, ⟨rfl, ⟨rfl, ⟨rfl, trivial⟩⟩⟩⟩⟩ (t_Law_law_693 hk23 l1 l2 l3 l4 (hL M61 l3 0) (1 : Int64) M61)
      · skip
        refine B_iconst (0 : Int32) ic_0 ?_
        exact Z_ret rfl (Or.inl rfl)
    · skip
      refine V_open ok_Law_law_702 ?_
      refine B_aload_n rfl ?_
      refine B_chk (fun t64 => ?_)
      refine C_I (vs := [.ref l1]) (st := []) (ci_V lv_Law_118 rfl rfl t64) rfl rfl rfl (s_PF_dismiss l1 M) (fun v66 M65 => ?_)
      refine B_aload_n rfl ?_
      refine B_chk (fun t67 => ?_)
      refine C_I (vs := [.ref l2]) (st := [.int v66]) (ci_V lv_Law_122 rfl rfl t67) rfl rfl rfl (s_Mo_dismiss l2 M65) (fun v69 M68 => ?_)
      refine B_ieq (tgt := 1517) (by decide) ?_ ?_
      · skip
        exact V_weak (ls' := [some (.ref (gb G)), some (.ref l1), some (.ref l2), some (.ref l3), some (.int l4), none, none]) ⟨rfl, ⟨rfl, ⟨rfl, ⟨rfl, ⟨rfl, trivial⟩⟩⟩⟩⟩ (t_Law_law_1517 hk23 l1 l2 l3 l4 M68)
      · skip
        refine B_iconst (0 : Int32) ic_0 ?_
        exact Z_ret rfl (Or.inl rfl)
    · skip
      refine V_open ok_Law_law_715 ?_
      refine B_aload_n rfl ?_
      refine B_aload_n rfl ?_
      refine C_I (vs := [.ref l1, .ref l3]) (st := []) (ci_S ls_Law_123 rfl) rfl rfl rfl (s_Law_close l1 l3 M) (fun v71 M70 => ?_)
      refine S_i [some (.ref (gb G)), some (.ref l1), some (.ref l2), some (.ref l3), some (.int l4), some (.int v71), none] (by decide) rfl ?_
      refine B_aload_n rfl ?_
      refine B_chk (fun t72 => ?_)
      refine C_I (vs := [.ref l2]) (st := []) (ci_V lv_Law_125 rfl rfl t72) rfl rfl rfl (s_Mo_close l2 M70) (fun v74 M73 => ?_)
      refine S_i [some (.ref (gb G)), some (.ref l1), some (.ref l2), some (.ref l3), some (.int l4), some (.int v71), some (.int v74)] (by decide) rfl ?_
      refine B_aload_n rfl ?_
      refine B_chk (fun t75 => ?_)
      refine C_I (vs := [.ref l2]) (st := []) (ci_V lv_Law_100 rfl rfl t75) rfl rfl rfl (s_Mo_thrown l2 M73) (fun v77 M76 => ?_)
      refine B_iload rfl ?_
      refine B_ieq (tgt := 739) (by decide) ?_ ?_
      · skip
        refine V_open ok_Law_law_739 ?_
        refine B_iload rfl ?_
        refine B_ne (tgt := 756) (by decide) ?_ ?_
        · skip
          exact V_weak (ls' := [some (.ref (gb G)), some (.ref l1), some (.ref l2), some (.ref l3), some (.int l4), none, none]) ⟨rfl, ⟨rfl, ⟨rfl, ⟨rfl, ⟨rfl, trivial⟩⟩⟩⟩⟩ (t_Law_law_756 hk23 l1 l2 l3 l4 M76)
        · skip
          refine B_aload_n rfl ?_
          refine B_iconst (0 : Int32) ic_0 ?_
          refine B_chk (fun t78 => ?_)
          refine K_laldc 0 rfl t78 ?_
          refine B_iload rfl ?_
          refine B_i2l ?_
          refine B_lcmp ?_
          refine B_eq (tgt := 756) (by decide) ?_ ?_
          · skip
            exact V_weak (ls' := [some (.ref (gb G)), some (.ref l1), some (.ref l2), some (.ref l3), some (.int l4), none, none]) ⟨rfl, ⟨rfl, ⟨rfl, ⟨rfl, ⟨rfl, trivial⟩⟩⟩⟩⟩ (t_Law_law_756 hk23 l1 l2 l3 l4 M76)
          · skip
            refine B_iconst (0 : Int32) ic_0 ?_
            exact Z_ret rfl (Or.inl rfl)
      · skip
        refine B_iconst (0 : Int32) ic_0 ?_
        exact Z_ret rfl (Or.inl rfl)
    · skip
      refine V_open ok_Law_law_759 ?_
      refine B_aload_n rfl ?_
      refine B_aload_n rfl ?_
      refine B_iload rfl ?_
      refine B_iconst (1 : Int32) ic_1 ?_
      refine B_iadd ?_
      refine B_sld ?_
      refine B_aload_n rfl ?_
      refine B_iload rfl ?_
      refine B_iconst (2 : Int32) ic_2 ?_
      refine B_iadd ?_
      refine B_sld ?_
      refine B_aload_n rfl ?_
      refine C_I (vs := [.ref l1, .int (gx G (l4 + (1 : Int32)).toNatClampNeg), .int (gx G (l4 + (2 : Int32)).toNatClampNeg), .ref l3]) (st := []) (ci_S ls_Law_126 rfl) rfl rfl rfl (s_Law_button l1 (gx G (l4 + (1 : Int32)).toNatClampNeg) (gx G (l4 + (2 : Int32)).toNatClampNeg) l3 M) (fun v80 M79 => ?_)
      refine S_i [some (.ref (gb G)), some (.ref l1), some (.ref l2), some (.ref l3), some (.int l4), some (.int v80), none] (by decide) rfl ?_
      refine B_aload_n rfl ?_
      refine B_aload_n rfl ?_
      refine B_iload rfl ?_
      refine B_iconst (1 : Int32) ic_1 ?_
      refine B_iadd ?_
      refine B_sld ?_
      refine B_aload_n rfl ?_
      refine B_iload rfl ?_
      refine B_iconst (2 : Int32) ic_2 ?_
      refine B_iadd ?_
      refine B_sld ?_
      refine B_chk (fun t81 => ?_)
      refine C_I (vs := [.ref l2, .int (gx G (l4 + (1 : Int32)).toNatClampNeg), .int (gx G (l4 + (2 : Int32)).toNatClampNeg)]) (st := []) (ci_V lv_Law_129 rfl rfl t81) rfl rfl rfl (s_Mo_button l2 (gx G (l4 + (1 : Int32)).toNatClampNeg) (gx G (l4 + (2 : Int32)).toNatClampNeg) M79) (fun v83 M82 => ?_)
      refine S_i [some (.ref (gb G)), some (.ref l1), some (.ref l2), some (.ref l3), some (.int l4), some (.int v80), some (.int v83)] (by decide) rfl ?_
      refine B_aload_n rfl ?_
      refine B_chk (fun t84 => ?_)
      refine C_I (vs := [.ref l2]) (st := []) (ci_V lv_Law_100 rfl rfl t84) rfl rfl rfl (s_Mo_thrown l2 M82) (fun v86 M85 => ?_)
      refine B_iload rfl ?_
      refine B_ieq (tgt := 807) (by decide) ?_ ?_
      · skip
        refine V_open ok_Law_law_807 ?_
        refine B_iload rfl ?_
        refine B_ne (tgt := 831) (by decide) ?_ ?_
        · skip
          exact V_weak (ls' := [some (.ref (gb G)), some (.ref l1), some (.ref l2), some (.ref l3), some (.int l4), none, none]) ⟨rfl, ⟨rfl, ⟨rfl, ⟨rfl, ⟨rfl, trivial⟩⟩⟩⟩⟩ (t_Law_law_831 hk23 l1 l2 l3 l4 M85)
        · skip
          refine B_aload_n rfl ?_
          refine B_iconst (0 : Int32) ic_0 ?_
          refine B_chk (fun t87 => ?_)
          refine K_laldc 0 rfl t87 ?_
          refine B_iload rfl ?_
          refine B_eq (tgt := 824) (by decide) ?_ ?_
          · skip
            refine V_open ok_Law_law_824 ?_
            refine B_lconst (0 : Int64) lc_0 ?_
            refine V_close ?_
            exact V_weak (ls' := [some (.ref (gb G)), some (.ref l1), some (.ref l2), some (.ref l3), some (.int l4), none, none]) ⟨rfl, ⟨rfl, ⟨rfl, ⟨rfl, ⟨rfl, trivial⟩⟩⟩⟩⟩ (t_Law_law_825 hk23 l1 l2 l3 l4 (hL M85 l3 0) (0 : Int64) M85)
          · skip
            refine B_lconst (1 : Int64) lc_1 ?_
            refine B_goto (tgt := 825) (by decide) ?_
            exact V_weak (ls' := [some (.ref (gb G)), some (.ref l1), some (.ref l2), some (.ref l3), some (.int l4), none, none]) ⟨rfl, ⟨rfl, ⟨rfl, ⟨rfl, ⟨rfl, trivial⟩⟩⟩⟩⟩ (t_Law_law_825 hk23 l1 l2 l3 l4 (hL M85 l3 0) (1 : Int64) M85)
      · skip
        refine B_iconst (0 : Int32) ic_0 ?_
        exact Z_ret rfl (Or.inl rfl)
    · skip
      refine V_open ok_Law_law_834 ?_
      refine B_aload_n rfl ?_
      refine B_aload_n rfl ?_
      refine B_iload rfl ?_
      refine B_iconst (1 : Int32) ic_1 ?_
      refine B_iadd ?_
      refine B_sld ?_
      refine B_aload_n rfl ?_
      refine C_I (vs := [.ref l1, .int (gx G (l4 + (1 : Int32)).toNatClampNeg), .ref l3]) (st := []) (ci_S ls_Law_130 rfl) rfl rfl rfl (s_Law_check l1 (gx G (l4 + (1 : Int32)).toNatClampNeg) l3 M) (fun v89 M88 => ?_)
      refine S_i [some (.ref (gb G)), some (.ref l1), some (.ref l2), some (.ref l3), some (.int l4), some (.int v89), none] (by decide) rfl ?_
      refine B_aload_n rfl ?_
      refine B_aload_n rfl ?_
      refine B_iload rfl ?_
      refine B_iconst (1 : Int32) ic_1 ?_
      refine B_iadd ?_
      refine B_sld ?_
      refine B_chk (fun t90 => ?_)
      refine C_I (vs := [.ref l2, .int (gx G (l4 + (1 : Int32)).toNatClampNeg)]) (st := []) (ci_V lv_Law_132 rfl rfl t90) rfl rfl rfl (s_Mo_check l2 (gx G (l4 + (1 : Int32)).toNatClampNeg) M88) (fun v92 M91 => ?_)
      refine S_i [some (.ref (gb G)), some (.ref l1), some (.ref l2), some (.ref l3), some (.int l4), some (.int v89), some (.int v92)] (by decide) rfl ?_
      refine B_aload_n rfl ?_
      refine B_chk (fun t93 => ?_)
      refine C_I (vs := [.ref l2]) (st := []) (ci_V lv_Law_100 rfl rfl t93) rfl rfl rfl (s_Mo_thrown l2 M91) (fun v95 M94 => ?_)
      refine B_iload rfl ?_
      refine B_ieq (tgt := 870) (by decide) ?_ ?_
      · skip
        refine V_open ok_Law_law_870 ?_
        refine B_iload rfl ?_
        refine B_ne (tgt := 887) (by decide) ?_ ?_
        · skip
          exact V_weak (ls' := [some (.ref (gb G)), some (.ref l1), some (.ref l2), some (.ref l3), some (.int l4), none, none]) ⟨rfl, ⟨rfl, ⟨rfl, ⟨rfl, ⟨rfl, trivial⟩⟩⟩⟩⟩ (t_Law_law_887 hk23 l1 l2 l3 l4 M94)
        · skip
          refine B_aload_n rfl ?_
          refine B_iconst (0 : Int32) ic_0 ?_
          refine B_chk (fun t96 => ?_)
          refine K_laldc 0 rfl t96 ?_
          refine B_iload rfl ?_
          refine B_i2l ?_
          refine B_lcmp ?_
          refine B_eq (tgt := 887) (by decide) ?_ ?_
          · skip
            exact V_weak (ls' := [some (.ref (gb G)), some (.ref l1), some (.ref l2), some (.ref l3), some (.int l4), none, none]) ⟨rfl, ⟨rfl, ⟨rfl, ⟨rfl, ⟨rfl, trivial⟩⟩⟩⟩⟩ (t_Law_law_887 hk23 l1 l2 l3 l4 M94)
          · skip
            refine B_iconst (0 : Int32) ic_0 ?_
            exact Z_ret rfl (Or.inl rfl)
      · skip
        refine B_iconst (0 : Int32) ic_0 ?_
        exact Z_ret rfl (Or.inl rfl)
    · skip
      refine V_open ok_Law_law_890 ?_
      refine B_aload_n rfl ?_
      refine B_aload_n rfl ?_
      refine B_iload rfl ?_
      refine B_iconst (1 : Int32) ic_1 ?_
      refine B_iadd ?_
      refine B_sld ?_
      refine B_aload_n rfl ?_
      refine B_iload rfl ?_
      refine B_iconst (2 : Int32) ic_2 ?_
      refine B_iadd ?_
      refine B_sld ?_
      refine B_aload_n rfl ?_
      refine B_iload rfl ?_
      refine B_iconst (3 : Int32) ic_3 ?_
      refine B_iadd ?_
      refine B_sld ?_
      refine B_aload_n rfl ?_
      refine B_iload rfl ?_
      refine B_iconst (4 : Int32) ic_4 ?_
      refine B_iadd ?_
      refine B_sld ?_
      refine B_aload_n rfl ?_
      refine C_I (vs := [.ref l1, .int (gx G (l4 + (1 : Int32)).toNatClampNeg), .int (gx G (l4 + (2 : Int32)).toNatClampNeg), .int (gx G (l4 + (3 : Int32)).toNatClampNeg), .int (gx G (l4 + (4 : Int32)).toNatClampNeg), .ref l3]) (st := []) (ci_S ls_Law_133 rfl) rfl rfl rfl (s_Law_slider l1 (gx G (l4 + (1 : Int32)).toNatClampNeg) (gx G (l4 + (2 : Int32)).toNatClampNeg) (gx G (l4 + (3 : Int32)).toNatClampNeg) (gx G (l4 + (4 : Int32)).toNatClampNeg) l3 M) (fun v98 M97 => ?_)
      refine S_i [some (.ref (gb G)), some (.ref l1), some (.ref l2), some (.ref l3), some (.int l4), some (.int v98), none] (by decide) rfl ?_
      refine B_aload_n rfl ?_
      refine B_aload_n rfl ?_
      refine B_iload rfl ?_
      refine B_iconst (1 : Int32) ic_1 ?_
      refine B_iadd ?_
      refine B_sld ?_
      refine B_aload_n rfl ?_
      refine B_iload rfl ?_
      refine B_iconst (2 : Int32) ic_2 ?_
      refine B_iadd ?_
      refine B_sld ?_
      refine B_aload_n rfl ?_
      refine B_iload rfl ?_
      refine B_iconst (3 : Int32) ic_3 ?_
      refine B_iadd ?_
      refine B_sld ?_
      refine B_aload_n rfl ?_
      refine B_iload rfl ?_
      refine B_iconst (4 : Int32) ic_4 ?_
      refine B_iadd ?_
      refine B_sld ?_
      refine B_chk (fun t99 => ?_)
      refine C_I (vs := [.ref l2, .int (gx G (l4 + (1 : Int32)).toNatClampNeg), .int (gx G (l4 + (2 : Int32)).toNatClampNeg), .int (gx G (l4 + (3 : Int32)).toNatClampNeg), .int (gx G (l4 + (4 : Int32)).toNatClampNeg)]) (st := []) (ci_V lv_Law_136 rfl rfl t99) rfl rfl rfl (s_Mo_slider l2 (gx G (l4 + (1 : Int32)).toNatClampNeg) (gx G (l4 + (2 : Int32)).toNatClampNeg) (gx G (l4 + (3 : Int32)).toNatClampNeg) (gx G (l4 + (4 : Int32)).toNatClampNeg) M97) (fun v101 M100 => ?_)
      refine S_i [some (.ref (gb G)), some (.ref l1), some (.ref l2), some (.ref l3), some (.int l4), some (.int v98), some (.int v101)] (by decide) rfl ?_
      refine B_aload_n rfl ?_
      refine B_chk (fun t102 => ?_)
      refine C_I (vs := [.ref l2]) (st := []) (ci_V lv_Law_100 rfl rfl t102) rfl rfl rfl (s_Mo_thrown l2 M100) (fun v104 M103 => ?_)
      refine B_iload rfl ?_
      refine B_ieq (tgt := 962) (by decide) ?_ ?_
      · skip
        refine V_open ok_Law_law_962 ?_
        refine B_iload rfl ?_
        refine B_ne (tgt := 979) (by decide) ?_ ?_
        · skip
          exact V_weak (ls' := [some (.ref (gb G)), some (.ref l1), some (.ref l2), some (.ref l3), some (.int l4), none, none]) ⟨rfl, ⟨rfl, ⟨rfl, ⟨rfl, ⟨rfl, trivial⟩⟩⟩⟩⟩ (t_Law_law_979 hk23 l1 l2 l3 l4 M103)
        · skip
          refine B_aload_n rfl ?_
          refine B_iconst (0 : Int32) ic_0 ?_
          refine B_chk (fun t105 => ?_)
          refine K_laldc 0 rfl t105 ?_
          refine B_iload rfl ?_
          refine B_i2l ?_
          refine B_lcmp ?_
          refine B_eq (tgt := 979) (by decide) ?_ ?_
          · skip
            exact V_weak (ls' := [some (.ref (gb G)), some (.ref l1), some (.ref l2), some (.ref l3), some (.int l4), none, none]) ⟨rfl, ⟨rfl, ⟨rfl, ⟨rfl, ⟨rfl, trivial⟩⟩⟩⟩⟩ (t_Law_law_979 hk23 l1 l2 l3 l4 M103)
          · skip
            refine B_iconst (0 : Int32) ic_0 ?_
            exact Z_ret rfl (Or.inl rfl)
      · skip
        refine B_iconst (0 : Int32) ic_0 ?_
        exact Z_ret rfl (Or.inl rfl)
    · skip
      refine V_open ok_Law_law_982 ?_
      refine B_aload_n rfl ?_
      refine B_aload_n rfl ?_
      refine B_iload rfl ?_
      refine B_iconst (1 : Int32) ic_1 ?_
      refine B_iadd ?_
      refine B_sld ?_
      refine B_aload_n rfl ?_
      refine B_iload rfl ?_
      refine B_iconst (2 : Int32) ic_2 ?_
      refine B_iadd ?_
      refine B_sld ?_
      refine B_aload_n rfl ?_
      refine C_I (vs := [.ref l1, .int (gx G (l4 + (1 : Int32)).toNatClampNeg), .int (gx G (l4 + (2 : Int32)).toNatClampNeg), .ref l3]) (st := []) (ci_S ls_Law_137 rfl) rfl rfl rfl (s_Law_field l1 (gx G (l4 + (1 : Int32)).toNatClampNeg) (gx G (l4 + (2 : Int32)).toNatClampNeg) l3 M) (fun v107 M106 => ?_)
      refine S_i [some (.ref (gb G)), some (.ref l1), some (.ref l2), some (.ref l3), some (.int l4), some (.int v107), none] (by decide) rfl ?_
      refine B_aload_n rfl ?_
      refine B_aload_n rfl ?_
      refine B_iload rfl ?_
      refine B_iconst (1 : Int32) ic_1 ?_
      refine B_iadd ?_
      refine B_sld ?_
      refine B_aload_n rfl ?_
      refine B_iload rfl ?_
      refine B_iconst (2 : Int32) ic_2 ?_
      refine B_iadd ?_
      refine B_sld ?_
      refine B_chk (fun t108 => ?_)
      refine C_I (vs := [.ref l2, .int (gx G (l4 + (1 : Int32)).toNatClampNeg), .int (gx G (l4 + (2 : Int32)).toNatClampNeg)]) (st := []) (ci_V lv_Law_139 rfl rfl t108) rfl rfl rfl (s_Mo_field l2 (gx G (l4 + (1 : Int32)).toNatClampNeg) (gx G (l4 + (2 : Int32)).toNatClampNeg) M106) (fun v110 M109 => ?_)
      refine S_i [some (.ref (gb G)), some (.ref l1), some (.ref l2), some (.ref l3), some (.int l4), some (.int v107), some (.int v110)] (by decide) rfl ?_
      refine B_aload_n rfl ?_
      refine B_chk (fun t111 => ?_)
      refine C_I (vs := [.ref l2]) (st := []) (ci_V lv_Law_100 rfl rfl t111) rfl rfl rfl (s_Mo_thrown l2 M109) (fun v113 M112 => ?_)
      refine B_iload rfl ?_
      refine B_ieq (tgt := 1030) (by decide) ?_ ?_
      · skip
        refine V_open ok_Law_law_1030 ?_
        refine B_iload rfl ?_
        refine B_ne (tgt := 1047) (by decide) ?_ ?_
        · skip
          exact V_weak (ls' := [some (.ref (gb G)), some (.ref l1), some (.ref l2), some (.ref l3), some (.int l4), none, none]) ⟨rfl, ⟨rfl, ⟨rfl, ⟨rfl, ⟨rfl, trivial⟩⟩⟩⟩⟩ (t_Law_law_1047 hk23 l1 l2 l3 l4 M112)
        · skip
          refine B_aload_n rfl ?_
          refine B_iconst (0 : Int32) ic_0 ?_
          refine B_chk (fun t114 => ?_)
          refine K_laldc 0 rfl t114 ?_
          refine B_iload rfl ?_
          refine B_i2l ?_
          refine B_lcmp ?_
          refine B_eq (tgt := 1047) (by decide) ?_ ?_
          · skip
            exact V_weak (ls' := [some (.ref (gb G)), some (.ref l1), some (.ref l2), some (.ref l3), some (.int l4), none, none]) ⟨rfl, ⟨rfl, ⟨rfl, ⟨rfl, ⟨rfl, trivial⟩⟩⟩⟩⟩ (t_Law_law_1047 hk23 l1 l2 l3 l4 M112)
          · skip
            refine B_iconst (0 : Int32) ic_0 ?_
            exact Z_ret rfl (Or.inl rfl)
      · skip
        refine B_iconst (0 : Int32) ic_0 ?_
        exact Z_ret rfl (Or.inl rfl)
    · skip
      refine V_open ok_Law_law_1050 ?_
      refine B_aload_n rfl ?_
      refine B_aload_n rfl ?_
      refine B_iload rfl ?_
      refine B_iconst (1 : Int32) ic_1 ?_
      refine B_iadd ?_
      refine B_sld ?_
      refine B_aload_n rfl ?_
      refine B_iload rfl ?_
      refine B_iconst (2 : Int32) ic_2 ?_
      refine B_iadd ?_
      refine B_sld ?_
      refine B_aload_n rfl ?_
      refine C_I (vs := [.ref l1, .int (gx G (l4 + (1 : Int32)).toNatClampNeg), .int (gx G (l4 + (2 : Int32)).toNatClampNeg), .ref l3]) (st := []) (ci_S ls_Law_140 rfl) rfl rfl rfl (s_Law_tree l1 (gx G (l4 + (1 : Int32)).toNatClampNeg) (gx G (l4 + (2 : Int32)).toNatClampNeg) l3 M) (fun v116 M115 => ?_)
      refine S_i [some (.ref (gb G)), some (.ref l1), some (.ref l2), some (.ref l3), some (.int l4), some (.int v116), none] (by decide) rfl ?_
      refine B_aload_n rfl ?_
      refine B_aload_n rfl ?_
      refine B_iload rfl ?_
      refine B_iconst (1 : Int32) ic_1 ?_
      refine B_iadd ?_
      refine B_sld ?_
      refine B_aload_n rfl ?_
      refine B_iload rfl ?_
      refine B_iconst (2 : Int32) ic_2 ?_
      refine B_iadd ?_
      refine B_sld ?_
      refine B_chk (fun t117 => ?_)
      refine C_I (vs := [.ref l2, .int (gx G (l4 + (1 : Int32)).toNatClampNeg), .int (gx G (l4 + (2 : Int32)).toNatClampNeg)]) (st := []) (ci_V lv_Law_142 rfl rfl t117) rfl rfl rfl (s_Mo_tree l2 (gx G (l4 + (1 : Int32)).toNatClampNeg) (gx G (l4 + (2 : Int32)).toNatClampNeg) M115) (fun v119 M118 => ?_)
      refine S_i [some (.ref (gb G)), some (.ref l1), some (.ref l2), some (.ref l3), some (.int l4), some (.int v116), some (.int v119)] (by decide) rfl ?_
      refine B_aload_n rfl ?_
      refine B_chk (fun t120 => ?_)
      refine C_I (vs := [.ref l2]) (st := []) (ci_V lv_Law_100 rfl rfl t120) rfl rfl rfl (s_Mo_thrown l2 M118) (fun v122 M121 => ?_)
      refine B_iload rfl ?_
      refine B_ieq (tgt := 1098) (by decide) ?_ ?_
      · skip
        refine V_open ok_Law_law_1098 ?_
        refine B_iload rfl ?_
        refine B_ne (tgt := 1122) (by decide) ?_ ?_
        · skip
          exact V_weak (ls' := [some (.ref (gb G)), some (.ref l1), some (.ref l2), some (.ref l3), some (.int l4), none, none]) ⟨rfl, ⟨rfl, ⟨rfl, ⟨rfl, ⟨rfl, trivial⟩⟩⟩⟩⟩ (t_Law_law_1122 hk23 l1 l2 l3 l4 M121)
        · skip
          refine B_aload_n rfl ?_
          refine B_iconst (0 : Int32) ic_0 ?_
          refine B_chk (fun t123 => ?_)
          refine K_laldc 0 rfl t123 ?_
          refine B_iload rfl ?_
          refine B_eq (tgt := 1115) (by decide) ?_ ?_
          · skip
            refine V_open ok_Law_law_1115 ?_
            refine B_lconst (0 : Int64) lc_0 ?_
            refine V_close ?_
            exact V_weak (ls' := [some (.ref (gb G)), some (.ref l1), some (.ref l2), some (.ref l3), some (.int l4), none, none]) ⟨rfl, ⟨rfl, ⟨rfl, ⟨rfl, ⟨rfl, trivial⟩⟩⟩⟩⟩ (t_Law_law_1116 hk23 l1 l2 l3 l4 (hL M121 l3 0) (0 : Int64) M121)
          · skip
            refine B_lconst (1 : Int64) lc_1 ?_
            refine B_goto (tgt := 1116) (by decide) ?_
            exact V_weak (ls' := [some (.ref (gb G)), some (.ref l1), some (.ref l2), some (.ref l3), some (.int l4), none, none]) ⟨rfl, ⟨rfl, ⟨rfl, ⟨rfl, ⟨rfl, trivial⟩⟩⟩⟩⟩ (t_Law_law_1116 hk23 l1 l2 l3 l4 (hL M121 l3 0) (1 : Int64) M121)
      · skip
        refine B_iconst (0 : Int32) ic_0 ?_
        exact Z_ret rfl (Or.inl rfl)
    · skip
      refine V_open ok_Law_law_1125 ?_
      refine B_aload_n rfl ?_
      refine B_aload_n rfl ?_
      refine B_iload rfl ?_
      refine B_iconst (1 : Int32) ic_1 ?_
      refine B_iadd ?_
      refine B_sld ?_
      refine B_aload_n rfl ?_
      refine B_iload rfl ?_
      refine B_iconst (2 : Int32) ic_2 ?_
      refine B_iadd ?_
      refine B_sld ?_
      refine B_aload_n rfl ?_
      refine B_iload rfl ?_
      refine B_iconst (3 : Int32) ic_3 ?_
      refine B_iadd ?_
      refine B_sld ?_
      refine C_I (vs := [.ref l1, .int (gx G (l4 + (1 : Int32)).toNatClampNeg), .int (gx G (l4 + (2 : Int32)).toNatClampNeg), .int (gx G (l4 + (3 : Int32)).toNatClampNeg)]) (st := []) (ci_S ls_Law_143 rfl) rfl rfl rfl (s_Law_child l1 (gx G (l4 + (1 : Int32)).toNatClampNeg) (gx G (l4 + (2 : Int32)).toNatClampNeg) (gx G (l4 + (3 : Int32)).toNatClampNeg) M) (fun v125 M124 => ?_)
      refine S_i [some (.ref (gb G)), some (.ref l1), some (.ref l2), some (.ref l3), some (.int l4), some (.int v125), none] (by decide) rfl ?_
      refine B_aload_n rfl ?_
      refine B_aload_n rfl ?_
      refine B_iload rfl ?_
      refine B_iconst (1 : Int32) ic_1 ?_
      refine B_iadd ?_
      refine B_sld ?_
      refine B_aload_n rfl ?_
      refine B_iload rfl ?_
      refine B_iconst (2 : Int32) ic_2 ?_
      refine B_iadd ?_
      refine B_sld ?_
      refine B_aload_n rfl ?_
      refine B_iload rfl ?_
      refine B_iconst (3 : Int32) ic_3 ?_
      refine B_iadd ?_
      refine B_sld ?_
      refine B_chk (fun t126 => ?_)
      refine C_V (vs := [.ref l2, .int (gx G (l4 + (1 : Int32)).toNatClampNeg), .int (gx G (l4 + (2 : Int32)).toNatClampNeg), .int (gx G (l4 + (3 : Int32)).toNatClampNeg)]) (st := []) (ci_V lv_Law_146 rfl rfl t126) rfl rfl rfl (s_Mo_child l2 (gx G (l4 + (1 : Int32)).toNatClampNeg) (gx G (l4 + (2 : Int32)).toNatClampNeg) (gx G (l4 + (3 : Int32)).toNatClampNeg) M124) (fun M127 => ?_)
      refine B_aload_n rfl ?_
      refine B_chk (fun t128 => ?_)
      refine C_I (vs := [.ref l2]) (st := []) (ci_V lv_Law_100 rfl rfl t128) rfl rfl rfl (s_Mo_thrown l2 M127) (fun v130 M129 => ?_)
      refine B_iload rfl ?_
      refine B_ieq (tgt := 1182) (by decide) ?_ ?_
      · skip
        refine V_open ok_Law_law_1182 ?_
        refine B_goto (tgt := 1517) (by decide) ?_
        exact V_weak (ls' := [some (.ref (gb G)), some (.ref l1), some (.ref l2), some (.ref l3), some (.int l4), none, none]) ⟨rfl, ⟨rfl, ⟨rfl, ⟨rfl, ⟨rfl, trivial⟩⟩⟩⟩⟩ (t_Law_law_1517 hk23 l1 l2 l3 l4 M129)
      · skip
        refine B_iconst (0 : Int32) ic_0 ?_
        exact Z_ret rfl (Or.inl rfl)
    · skip
      refine V_open ok_Law_law_1185 ?_
      refine B_aload_n rfl ?_
      refine B_aload_n rfl ?_
      refine B_iload rfl ?_
      refine B_iconst (1 : Int32) ic_1 ?_
      refine B_iadd ?_
      refine B_sld ?_
      refine C_I (vs := [.ref l1, .int (gx G (l4 + (1 : Int32)).toNatClampNeg)]) (st := []) (ci_S ls_Law_147 rfl) rfl rfl rfl (s_Law_scope l1 (gx G (l4 + (1 : Int32)).toNatClampNeg) M) (fun v132 M131 => ?_)
      refine S_i [some (.ref (gb G)), some (.ref l1), some (.ref l2), some (.ref l3), some (.int l4), some (.int v132), none] (by decide) rfl ?_
      refine B_aload_n rfl ?_
      refine B_aload_n rfl ?_
      refine B_iload rfl ?_
      refine B_iconst (1 : Int32) ic_1 ?_
      refine B_iadd ?_
      refine B_sld ?_
      refine B_chk (fun t133 => ?_)
      refine C_V (vs := [.ref l2, .int (gx G (l4 + (1 : Int32)).toNatClampNeg)]) (st := []) (ci_V lv_Law_150 rfl rfl t133) rfl rfl rfl (s_Mo_scope l2 (gx G (l4 + (1 : Int32)).toNatClampNeg) M131) (fun M134 => ?_)
      refine B_aload_n rfl ?_
      refine B_chk (fun t135 => ?_)
      refine C_I (vs := [.ref l2]) (st := []) (ci_V lv_Law_100 rfl rfl t135) rfl rfl rfl (s_Mo_thrown l2 M134) (fun v137 M136 => ?_)
      refine B_iload rfl ?_
      refine B_ieq (tgt := 1218) (by decide) ?_ ?_
      · skip
        refine V_open ok_Law_law_1218 ?_
        refine B_goto (tgt := 1517) (by decide) ?_
        exact V_weak (ls' := [some (.ref (gb G)), some (.ref l1), some (.ref l2), some (.ref l3), some (.int l4), none, none]) ⟨rfl, ⟨rfl, ⟨rfl, ⟨rfl, ⟨rfl, trivial⟩⟩⟩⟩⟩ (t_Law_law_1517 hk23 l1 l2 l3 l4 M136)
      · skip
        refine B_iconst (0 : Int32) ic_0 ?_
        exact Z_ret rfl (Or.inl rfl)
    · skip
      refine V_open ok_Law_law_1221 ?_
      refine B_aload_n rfl ?_
      refine C_I (vs := [.ref l1]) (st := []) (ci_S ls_Law_151 rfl) rfl rfl rfl (s_Law_group l1 M) (fun v139 M138 => ?_)
      refine S_i [some (.ref (gb G)), some (.ref l1), some (.ref l2), some (.ref l3), some (.int l4), some (.int v139), none] (by decide) rfl ?_
      refine B_aload_n rfl ?_
      refine B_chk (fun t140 => ?_)
      refine C_V (vs := [.ref l2]) (st := []) (ci_V lv_Law_154 rfl rfl t140) rfl rfl rfl (s_Mo_group l2 M138) (fun M141 => ?_)
      refine B_aload_n rfl ?_
      refine B_chk (fun t142 => ?_)
      refine C_I (vs := [.ref l2]) (st := []) (ci_V lv_Law_100 rfl rfl t142) rfl rfl rfl (s_Mo_thrown l2 M141) (fun v144 M143 => ?_)
      refine B_iload rfl ?_
      refine B_ieq (tgt := 1242) (by decide) ?_ ?_
      · skip
        refine V_open ok_Law_law_1242 ?_
        refine B_goto (tgt := 1517) (by decide) ?_
        exact V_weak (ls' := [some (.ref (gb G)), some (.ref l1), some (.ref l2), some (.ref l3), some (.int l4), none, none]) ⟨rfl, ⟨rfl, ⟨rfl, ⟨rfl, ⟨rfl, trivial⟩⟩⟩⟩⟩ (t_Law_law_1517 hk23 l1 l2 l3 l4 M143)
      · skip
        refine B_iconst (0 : Int32) ic_0 ?_
        exact Z_ret rfl (Or.inl rfl)
    · skip
      refine V_open ok_Law_law_1245 ?_
      refine B_aload_n rfl ?_
      refine C_I (vs := [.ref l1]) (st := []) (ci_S ls_Law_155 rfl) rfl rfl rfl (s_Law_near l1 M) (fun v146 M145 => ?_)
      refine S_i [some (.ref (gb G)), some (.ref l1), some (.ref l2), some (.ref l3), some (.int l4), some (.int v146), none] (by decide) rfl ?_
      refine B_aload_n rfl ?_
      refine B_chk (fun t147 => ?_)
      refine C_V (vs := [.ref l2]) (st := []) (ci_V lv_Law_157 rfl rfl t147) rfl rfl rfl (s_Mo_near l2 M145) (fun M148 => ?_)
      refine B_aload_n rfl ?_
      refine B_chk (fun t149 => ?_)
      refine C_I (vs := [.ref l2]) (st := []) (ci_V lv_Law_100 rfl rfl t149) rfl rfl rfl (s_Mo_thrown l2 M148) (fun v151 M150 => ?_)
      refine B_iload rfl ?_
      refine B_ieq (tgt := 1266) (by decide) ?_ ?_
      · skip
        refine V_open ok_Law_law_1266 ?_
        refine B_goto (tgt := 1517) (by decide) ?_
        exact V_weak (ls' := [some (.ref (gb G)), some (.ref l1), some (.ref l2), some (.ref l3), some (.int l4), none, none]) ⟨rfl, ⟨rfl, ⟨rfl, ⟨rfl, ⟨rfl, trivial⟩⟩⟩⟩⟩ (t_Law_law_1517 hk23 l1 l2 l3 l4 M150)
      · skip
        refine B_iconst (0 : Int32) ic_0 ?_
        exact Z_ret rfl (Or.inl rfl)
    · skip
      refine V_open ok_Law_law_1269 ?_
      refine B_aload_n rfl ?_
      refine B_aload_n rfl ?_
      refine B_iload rfl ?_
      refine B_iconst (1 : Int32) ic_1 ?_
      refine B_iadd ?_
      refine B_sld ?_
      refine B_chk (fun t152 => ?_)
      refine C_I (vs := [.ref l1, .int (gx G (l4 + (1 : Int32)).toNatClampNeg)]) (st := []) (ci_V lv_Law_158 rfl rfl t152) rfl rfl rfl (s_PF_look l1 (gx G (l4 + (1 : Int32)).toNatClampNeg) M) (fun v154 M153 => ?_)
      refine B_aload_n rfl ?_
      refine B_aload_n rfl ?_
      refine B_iload rfl ?_
      refine B_iconst (1 : Int32) ic_1 ?_
      refine B_iadd ?_
      refine B_sld ?_
      refine B_chk (fun t155 => ?_)
      refine C_I (vs := [.ref l2, .int (gx G (l4 + (1 : Int32)).toNatClampNeg)]) (st := [.int v154]) (ci_V lv_Law_161 rfl rfl t155) rfl rfl rfl (s_Mo_look l2 (gx G (l4 + (1 : Int32)).toNatClampNeg) M153) (fun v157 M156 => ?_)
      refine B_ieq (tgt := 1517) (by decide) ?_ ?_
      · skip
        exact V_weak (ls' := [some (.ref (gb G)), some (.ref l1), some (.ref l2), some (.ref l3), some (.int l4), none, none]) ⟨rfl, ⟨rfl, ⟨rfl, ⟨rfl, ⟨rfl, trivial⟩⟩⟩⟩⟩ (t_Law_law_1517 hk23 l1 l2 l3 l4 M156)
      · skip
        refine B_iconst (0 : Int32) ic_0 ?_
        exact Z_ret rfl (Or.inl rfl)
    · skip
      refine V_open ok_Law_law_1294 ?_
      refine B_aload_n rfl ?_
      refine B_aload_n rfl ?_
      refine B_iload rfl ?_
      refine B_iconst (1 : Int32) ic_1 ?_
      refine B_iadd ?_
      refine B_sld ?_
      refine B_aload_n rfl ?_
      refine B_iload rfl ?_
      refine B_iconst (2 : Int32) ic_2 ?_
      refine B_iadd ?_
      refine B_sld ?_
      refine B_chk (fun t158 => ?_)
      refine C_I (vs := [.ref l1, .int (gx G (l4 + (1 : Int32)).toNatClampNeg), .int (gx G (l4 + (2 : Int32)).toNatClampNeg)]) (st := []) (ci_V lv_Law_162 rfl rfl t158) rfl rfl rfl (s_PF_place l1 (gx G (l4 + (1 : Int32)).toNatClampNeg) (gx G (l4 + (2 : Int32)).toNatClampNeg) M) (fun v160 M159 => ?_)
      refine B_aload_n rfl ?_
      refine B_aload_n rfl ?_
      refine B_iload rfl ?_
      refine B_iconst (1 : Int32) ic_1 ?_
      refine B_iadd ?_
      refine B_sld ?_
      refine B_aload_n rfl ?_
      refine B_iload rfl ?_
      refine B_iconst (2 : Int32) ic_2 ?_
      refine B_iadd ?_
      refine B_sld ?_
      refine B_chk (fun t161 => ?_)
      refine C_I (vs := [.ref l2, .int (gx G (l4 + (1 : Int32)).toNatClampNeg), .int (gx G (l4 + (2 : Int32)).toNatClampNeg)]) (st := [.int v160]) (ci_V lv_Law_165 rfl rfl t161) rfl rfl rfl (s_Mo_place l2 (gx G (l4 + (1 : Int32)).toNatClampNeg) (gx G (l4 + (2 : Int32)).toNatClampNeg) M159) (fun v163 M162 => ?_)
      refine B_ieq (tgt := 1517) (by decide) ?_ ?_
      · skip
        exact V_weak (ls' := [some (.ref (gb G)), some (.ref l1), some (.ref l2), some (.ref l3), some (.int l4), none, none]) ⟨rfl, ⟨rfl, ⟨rfl, ⟨rfl, ⟨rfl, trivial⟩⟩⟩⟩⟩ (t_Law_law_1517 hk23 l1 l2 l3 l4 M162)
      · skip
        refine B_iconst (0 : Int32) ic_0 ?_
        exact Z_ret rfl (Or.inl rfl)
    · skip
      refine V_open ok_Law_law_1331 ?_
      refine B_aload_n rfl ?_
      refine B_aload_n rfl ?_
      refine B_iload rfl ?_
      refine B_iconst (1 : Int32) ic_1 ?_
      refine B_iadd ?_
      refine B_sld ?_
      refine B_chk (fun t164 => ?_)
      refine C_I (vs := [.ref l1, .int (gx G (l4 + (1 : Int32)).toNatClampNeg)]) (st := []) (ci_V lv_Law_166 rfl rfl t164) rfl rfl rfl (s_PF_kept l1 (gx G (l4 + (1 : Int32)).toNatClampNeg) M) (fun v166 M165 => ?_)
      refine B_aload_n rfl ?_
      refine B_aload_n rfl ?_
      refine B_iload rfl ?_
      refine B_iconst (1 : Int32) ic_1 ?_
      refine B_iadd ?_
      refine B_sld ?_
      refine B_chk (fun t167 => ?_)
      refine C_I (vs := [.ref l2, .int (gx G (l4 + (1 : Int32)).toNatClampNeg)]) (st := [.int v166]) (ci_V lv_Law_169 rfl rfl t167) rfl rfl rfl (s_Mo_kept l2 (gx G (l4 + (1 : Int32)).toNatClampNeg) M165) (fun v169 M168 => ?_)
      refine B_ieq (tgt := 1517) (by decide) ?_ ?_
      · skip
        exact V_weak (ls' := [some (.ref (gb G)), some (.ref l1), some (.ref l2), some (.ref l3), some (.int l4), none, none]) ⟨rfl, ⟨rfl, ⟨rfl, ⟨rfl, ⟨rfl, trivial⟩⟩⟩⟩⟩ (t_Law_law_1517 hk23 l1 l2 l3 l4 M168)
      · skip
        refine B_iconst (0 : Int32) ic_0 ?_
        exact Z_ret rfl (Or.inl rfl)
    · skip
      refine V_open ok_Law_law_1356 ?_
      refine B_aload_n rfl ?_
      refine B_aload_n rfl ?_
      refine B_iload rfl ?_
      refine B_iconst (1 : Int32) ic_1 ?_
      refine B_iadd ?_
      refine B_sld ?_
      refine B_aload_n rfl ?_
      refine B_iload rfl ?_
      refine B_iconst (2 : Int32) ic_2 ?_
      refine B_iadd ?_
      refine B_sld ?_
      refine B_chk (fun t170 => ?_)
      refine C_I (vs := [.ref l1, .int (gx G (l4 + (1 : Int32)).toNatClampNeg), .int (gx G (l4 + (2 : Int32)).toNatClampNeg)]) (st := []) (ci_V lv_Law_170 rfl rfl t170) rfl rfl rfl (s_PF_text l1 (gx G (l4 + (1 : Int32)).toNatClampNeg) (gx G (l4 + (2 : Int32)).toNatClampNeg) M) (fun v172 M171 => ?_)
      refine B_aload_n rfl ?_
      refine B_aload_n rfl ?_
      refine B_iload rfl ?_
      refine B_iconst (1 : Int32) ic_1 ?_
      refine B_iadd ?_
      refine B_sld ?_
      refine B_aload_n rfl ?_
      refine B_iload rfl ?_
      refine B_iconst (2 : Int32) ic_2 ?_
      refine B_iadd ?_
      refine B_sld ?_
      refine B_chk (fun t173 => ?_)
      refine C_I (vs := [.ref l2, .int (gx G (l4 + (1 : Int32)).toNatClampNeg), .int (gx G (l4 + (2 : Int32)).toNatClampNeg)]) (st := [.int v172]) (ci_V lv_Law_173 rfl rfl t173) rfl rfl rfl (s_Mo_text l2 (gx G (l4 + (1 : Int32)).toNatClampNeg) (gx G (l4 + (2 : Int32)).toNatClampNeg) M171) (fun v175 M174 => ?_)
      refine B_ieq (tgt := 1517) (by decide) ?_ ?_
      · skip
        exact V_weak (ls' := [some (.ref (gb G)), some (.ref l1), some (.ref l2), some (.ref l3), some (.int l4), none, none]) ⟨rfl, ⟨rfl, ⟨rfl, ⟨rfl, ⟨rfl, trivial⟩⟩⟩⟩⟩ (t_Law_law_1517 hk23 l1 l2 l3 l4 M174)
      · skip
        refine B_iconst (0 : Int32) ic_0 ?_
        exact Z_ret rfl (Or.inl rfl)
    · skip
      refine V_open ok_Law_law_1393 ?_
      refine B_aload_n rfl ?_
      refine B_aload_n rfl ?_
      refine B_iload rfl ?_
      refine B_iconst (1 : Int32) ic_1 ?_
      refine B_iadd ?_
      refine B_sld ?_
      refine B_chk (fun t176 => ?_)
      refine C_I (vs := [.ref l1, .int (gx G (l4 + (1 : Int32)).toNatClampNeg)]) (st := []) (ci_V lv_Law_174 rfl rfl t176) rfl rfl rfl (s_PF_drawn l1 (gx G (l4 + (1 : Int32)).toNatClampNeg) M) (fun v178 M177 => ?_)
      refine B_aload_n rfl ?_
      refine B_aload_n rfl ?_
      refine B_iload rfl ?_
      refine B_iconst (1 : Int32) ic_1 ?_
      refine B_iadd ?_
      refine B_sld ?_
      refine B_chk (fun t179 => ?_)
      refine C_I (vs := [.ref l2, .int (gx G (l4 + (1 : Int32)).toNatClampNeg)]) (st := [.int v178]) (ci_V lv_Law_177 rfl rfl t179) rfl rfl rfl (s_Mo_drawn l2 (gx G (l4 + (1 : Int32)).toNatClampNeg) M177) (fun v181 M180 => ?_)
      refine B_ieq (tgt := 1517) (by decide) ?_ ?_
      · skip
        exact V_weak (ls' := [some (.ref (gb G)), some (.ref l1), some (.ref l2), some (.ref l3), some (.int l4), none, none]) ⟨rfl, ⟨rfl, ⟨rfl, ⟨rfl, ⟨rfl, trivial⟩⟩⟩⟩⟩ (t_Law_law_1517 hk23 l1 l2 l3 l4 M180)
      · skip
        refine B_iconst (0 : Int32) ic_0 ?_
        exact Z_ret rfl (Or.inl rfl)
    · skip
      refine V_open ok_Law_law_1418 ?_
      refine B_aload_n rfl ?_
      refine B_aload_n rfl ?_
      refine B_iload rfl ?_
      refine B_iconst (1 : Int32) ic_1 ?_
      refine B_iadd ?_
      refine B_sld ?_
      refine B_aload_n rfl ?_
      refine B_iload rfl ?_
      refine B_iconst (2 : Int32) ic_2 ?_
      refine B_iadd ?_
      refine B_sld ?_
      refine B_chk (fun t182 => ?_)
      refine C_I (vs := [.ref l1, .int (gx G (l4 + (1 : Int32)).toNatClampNeg), .int (gx G (l4 + (2 : Int32)).toNatClampNeg)]) (st := []) (ci_V lv_Law_178 rfl rfl t182) rfl rfl rfl (s_PF_command l1 (gx G (l4 + (1 : Int32)).toNatClampNeg) (gx G (l4 + (2 : Int32)).toNatClampNeg) M) (fun v184 M183 => ?_)
      refine B_aload_n rfl ?_
      refine B_aload_n rfl ?_
      refine B_iload rfl ?_
      refine B_iconst (1 : Int32) ic_1 ?_
      refine B_iadd ?_
      refine B_sld ?_
      refine B_aload_n rfl ?_
      refine B_iload rfl ?_
      refine B_iconst (2 : Int32) ic_2 ?_
      refine B_iadd ?_
      refine B_sld ?_
      refine B_chk (fun t185 => ?_)
      refine C_I (vs := [.ref l2, .int (gx G (l4 + (1 : Int32)).toNatClampNeg), .int (gx G (l4 + (2 : Int32)).toNatClampNeg)]) (st := [.int v184]) (ci_V lv_Law_181 rfl rfl t185) rfl rfl rfl (s_Mo_command l2 (gx G (l4 + (1 : Int32)).toNatClampNeg) (gx G (l4 + (2 : Int32)).toNatClampNeg) M183) (fun v187 M186 => ?_)
      refine B_ieq (tgt := 1517) (by decide) ?_ ?_
      · skip
        exact V_weak (ls' := [some (.ref (gb G)), some (.ref l1), some (.ref l2), some (.ref l3), some (.int l4), none, none]) ⟨rfl, ⟨rfl, ⟨rfl, ⟨rfl, ⟨rfl, trivial⟩⟩⟩⟩⟩ (t_Law_law_1517 hk23 l1 l2 l3 l4 M186)
      · skip
        refine B_iconst (0 : Int32) ic_0 ?_
        exact Z_ret rfl (Or.inl rfl)
    · skip
      refine V_open ok_Law_law_1455 ?_
      refine B_aload_n rfl ?_
      refine B_aload_n rfl ?_
      refine B_iload rfl ?_
      refine B_iconst (1 : Int32) ic_1 ?_
      refine B_iadd ?_
      refine B_sld ?_
      refine B_chk (fun t188 => ?_)
      refine C_I (vs := [.ref l1, .int (gx G (l4 + (1 : Int32)).toNatClampNeg)]) (st := []) (ci_V lv_Law_182 rfl rfl t188) rfl rfl rfl (s_PF_index l1 (gx G (l4 + (1 : Int32)).toNatClampNeg) M) (fun v190 M189 => ?_)
      refine B_aload_n rfl ?_
      refine B_aload_n rfl ?_
      refine B_iload rfl ?_
      refine B_iconst (1 : Int32) ic_1 ?_
      refine B_iadd ?_
      refine B_sld ?_
      refine B_chk (fun t191 => ?_)
      refine C_I (vs := [.ref l2, .int (gx G (l4 + (1 : Int32)).toNatClampNeg)]) (st := [.int v190]) (ci_V lv_Law_185 rfl rfl t191) rfl rfl rfl (s_Mo_index l2 (gx G (l4 + (1 : Int32)).toNatClampNeg) M189) (fun v193 M192 => ?_)
      refine B_ieq (tgt := 1517) (by decide) ?_ ?_
      · skip
        exact V_weak (ls' := [some (.ref (gb G)), some (.ref l1), some (.ref l2), some (.ref l3), some (.int l4), none, none]) ⟨rfl, ⟨rfl, ⟨rfl, ⟨rfl, ⟨rfl, trivial⟩⟩⟩⟩⟩ (t_Law_law_1517 hk23 l1 l2 l3 l4 M192)
      · skip
        refine B_iconst (0 : Int32) ic_0 ?_
        exact Z_ret rfl (Or.inl rfl)
    · skip
      refine V_open ok_Law_law_1480 ?_
      refine B_aload_n rfl ?_
      refine B_aload_n rfl ?_
      refine B_iload rfl ?_
      refine B_iconst (1 : Int32) ic_1 ?_
      refine B_iadd ?_
      refine B_sld ?_
      refine B_aload_n rfl ?_
      refine B_iload rfl ?_
      refine B_iconst (2 : Int32) ic_2 ?_
      refine B_iadd ?_
      refine B_sld ?_
      refine B_chk (fun t194 => ?_)
      refine C_I (vs := [.ref l1, .int (gx G (l4 + (1 : Int32)).toNatClampNeg), .int (gx G (l4 + (2 : Int32)).toNatClampNeg)]) (st := []) (ci_V lv_Law_186 rfl rfl t194) rfl rfl rfl (s_PF_vertex l1 (gx G (l4 + (1 : Int32)).toNatClampNeg) (gx G (l4 + (2 : Int32)).toNatClampNeg) M) (fun v196 M195 => ?_)
      refine B_aload_n rfl ?_
      refine B_aload_n rfl ?_
      refine B_iload rfl ?_
      refine B_iconst (1 : Int32) ic_1 ?_
      refine B_iadd ?_
      refine B_sld ?_
      refine B_aload_n rfl ?_
      refine B_iload rfl ?_
      refine B_iconst (2 : Int32) ic_2 ?_
      refine B_iadd ?_
      refine B_sld ?_
      refine B_chk (fun t197 => ?_)
      refine C_I (vs := [.ref l2, .int (gx G (l4 + (1 : Int32)).toNatClampNeg), .int (gx G (l4 + (2 : Int32)).toNatClampNeg)]) (st := [.int v196]) (ci_V lv_Law_189 rfl rfl t197) rfl rfl rfl (s_Mo_vertex l2 (gx G (l4 + (1 : Int32)).toNatClampNeg) (gx G (l4 + (2 : Int32)).toNatClampNeg) M195) (fun v199 M198 => ?_)
      refine B_ieq (tgt := 1517) (by decide) ?_ ?_
      · skip
        exact V_weak (ls' := [some (.ref (gb G)), some (.ref l1), some (.ref l2), some (.ref l3), some (.int l4), none, none]) ⟨rfl, ⟨rfl, ⟨rfl, ⟨rfl, ⟨rfl, trivial⟩⟩⟩⟩⟩ (t_Law_law_1517 hk23 l1 l2 l3 l4 M198)
      · skip
        refine B_iconst (0 : Int32) ic_0 ?_
        exact Z_ret rfl (Or.inl rfl)
set_option maxRecDepth 100000 in
def w_Law_law_23 (G : GT) : Nat → Nat → Nat → Nat → Int32 → PH → Option (Int32 × PH)
  | 0 => fun _ _ _ _ _ => none
  | n + 1 => b_Law_law_23 G (w_Law_law_23 G n)
set_option maxRecDepth 100000 in
set_option maxHeartbeats 4000000 in
theorem tw_Law_law_23 {G : GT} : ∀ (n : Nat) (l1 : Nat) (l2 : Nat) (l3 : Nat) (l4 : Int32) (M : PH), VX G mi_Law_law 10 147 23 [some (.ref (gb G)), some (.ref l1), some (.ref l2), some (.ref l3), some (.int l4), none, none] [] M qI (w_Law_law_23 G n l1 l2 l3 l4 M)
  | 0, _, _, _, _, _ => X_none
  | n + 1, l1, l2, l3, l4, M => t_Law_law_23 (tw_Law_law_23 n) l1 l2 l3 l4 M
set_option maxRecDepth 100000 in
def f_Law_law (G : GT)  (M : PH) : Option (Int32 × PH) :=
  if hZ M < gC G ∧ hU M + 25 ≤ gS G then hb (nO M 10 25) fun M2 => (bV (f_PF_init G (hZ M) M2) fun M4 => (if hZ M4 < gC G ∧ hU M4 + 88 ≤ gS G then hb (nO M4 11 88) fun M6 => (bV (f_Mo_init G (hZ M4) M6) fun M8 => (if hZ M8 < gC G ∧ hU M8 + 1 ≤ gS G then hb (nA M8 19 1) fun M10 => (w_Law_law_23 G FU (hZ M) (hZ M4) (hZ M8) (0 : Int32) M10) else none)) else none)) else none
set_option maxRecDepth 100000 in
set_option maxHeartbeats 4000000 in
theorem s_Law_law {G : GT}  (M : PH) : VX G mi_Law_law 10 147 0 [some (.ref (gb G)), none, none, none, none, none, none] [] M qI (f_Law_law G  M) := by
  unfold f_Law_law
  refine V_open ok_Law_law_0 ?_
  refine K_new 10 25 rfl rfl lc_Law_8 (fun M2 e1 => ?_)
  have t3 : hT M2 (hZ M) = 10 := by rw [e1]; exact nO_T
  refine B_dup rfl ?_
  refine C_V (vs := [.ref (hZ M)]) (st := [.ref (hZ M)]) (ci_I li_Law_68 rfl) rfl rfl rfl (s_PF_init (hZ M) M2) (fun M4 => ?_)
  refine S_an [some (.ref (gb G)), some (.ref (hZ M)), none, none, none, none, none] (by decide) rfl ?_
  refine K_new 11 88 rfl rfl lc_Law_69 (fun M6 e5 => ?_)
  have t7 : hT M6 (hZ M4) = 11 := by rw [e5]; exact nO_T
  refine B_dup rfl ?_
  refine C_V (vs := [.ref (hZ M4)]) (st := [.ref (hZ M4)]) (ci_I li_Law_71 rfl) rfl rfl rfl (s_Mo_init (hZ M4) M6) (fun M8 => ?_)
  refine S_an [some (.ref (gb G)), some (.ref (hZ M)), some (.ref (hZ M4)), none, none, none, none] (by decide) rfl ?_
  refine B_iconst (1 : Int32) ic_1 ?_
  refine K_newac 19 1 rfl rfl la_19 (fun M10 e9 => ?_)
  have t11 : hT M10 (hZ M8) = 19 := by rw [e9]; exact nA_T
  refine S_an [some (.ref (gb G)), some (.ref (hZ M)), some (.ref (hZ M4)), some (.ref (hZ M8)), none, none, none] (by decide) rfl ?_
  refine B_iconst (0 : Int32) ic_0 ?_
  refine S_i [some (.ref (gb G)), some (.ref (hZ M)), some (.ref (hZ M4)), some (.ref (hZ M8)), some (.int (0 : Int32)), none, none] (by decide) rfl ?_
  refine V_close ?_
  exact V_weak (ls' := [some (.ref (gb G)), some (.ref (hZ M)), some (.ref (hZ M4)), some (.ref (hZ M8)), some (.int (0 : Int32)), none, none]) ⟨rfl, ⟨rfl, ⟨rfl, ⟨rfl, ⟨rfl, trivial⟩⟩⟩⟩⟩ (tw_Law_law_23 FU (hZ M) (hZ M4) (hZ M8) (0 : Int32) M10)
