/-! facts of classes and fields by kind and key (printed by gen/fields.py) -/
set_option maxRecDepth 100000
theorem kc1 : kcl[1]? = some (RX1, TX1, 18) := rfl
theorem g1000 : ((1 : Nat) != 0 && Nat.blt 1 100 && Nat.blt 0 18 && tg (TX1 0).2.2.1 == 2 && 1000 * 1 + 0 == 1000) = true := by decide +kernel
theorem g1001 : ((1 : Nat) != 0 && Nat.blt 1 100 && Nat.blt 1 18 && tg (TX1 1).2.2.1 == 2 && 1000 * 1 + 1 == 1001) = true := by decide +kernel
theorem g1002 : ((1 : Nat) != 0 && Nat.blt 1 100 && Nat.blt 2 18 && tg (TX1 2).2.2.1 == 2 && 1000 * 1 + 2 == 1002) = true := by decide +kernel
theorem g1003 : ((1 : Nat) != 0 && Nat.blt 1 100 && Nat.blt 3 18 && tg (TX1 3).2.2.1 == 2 && 1000 * 1 + 3 == 1003) = true := by decide +kernel
theorem g1004 : ((1 : Nat) != 0 && Nat.blt 1 100 && Nat.blt 4 18 && tg (TX1 4).2.2.1 == 2 && 1000 * 1 + 4 == 1004) = true := by decide +kernel
theorem g1005 : ((1 : Nat) != 0 && Nat.blt 1 100 && Nat.blt 5 18 && tg (TX1 5).2.2.1 == 2 && 1000 * 1 + 5 == 1005) = true := by decide +kernel
theorem g1006 : ((1 : Nat) != 0 && Nat.blt 1 100 && Nat.blt 6 18 && tg (TX1 6).2.2.1 == 0 && 1000 * 1 + 6 == 1006) = true := by decide +kernel
theorem g1007 : ((1 : Nat) != 0 && Nat.blt 1 100 && Nat.blt 7 18 && tg (TX1 7).2.2.1 == 2 && 1000 * 1 + 7 == 1007) = true := by decide +kernel
theorem g1008 : ((1 : Nat) != 0 && Nat.blt 1 100 && Nat.blt 8 18 && tg (TX1 8).2.2.1 == 0 && 1000 * 1 + 8 == 1008) = true := by decide +kernel
theorem g1009 : ((1 : Nat) != 0 && Nat.blt 1 100 && Nat.blt 9 18 && tg (TX1 9).2.2.1 == 2 && 1000 * 1 + 9 == 1009) = true := by decide +kernel
theorem g1010 : ((1 : Nat) != 0 && Nat.blt 1 100 && Nat.blt 10 18 && tg (TX1 10).2.2.1 == 0 && 1000 * 1 + 10 == 1010) = true := by decide +kernel
theorem g1011 : ((1 : Nat) != 0 && Nat.blt 1 100 && Nat.blt 11 18 && tg (TX1 11).2.2.1 == 2 && 1000 * 1 + 11 == 1011) = true := by decide +kernel
theorem g1012 : ((1 : Nat) != 0 && Nat.blt 1 100 && Nat.blt 12 18 && tg (TX1 12).2.2.1 == 2 && 1000 * 1 + 12 == 1012) = true := by decide +kernel
theorem g1013 : ((1 : Nat) != 0 && Nat.blt 1 100 && Nat.blt 13 18 && tg (TX1 13).2.2.1 == 2 && 1000 * 1 + 13 == 1013) = true := by decide +kernel
theorem g1014 : ((1 : Nat) != 0 && Nat.blt 1 100 && Nat.blt 14 18 && tg (TX1 14).2.2.1 == 2 && 1000 * 1 + 14 == 1014) = true := by decide +kernel
theorem g1015 : ((1 : Nat) != 0 && Nat.blt 1 100 && Nat.blt 15 18 && tg (TX1 15).2.2.1 == 2 && 1000 * 1 + 15 == 1015) = true := by decide +kernel
theorem g1016 : ((1 : Nat) != 0 && Nat.blt 1 100 && Nat.blt 16 18 && tg (TX1 16).2.2.1 == 2 && 1000 * 1 + 16 == 1016) = true := by decide +kernel
theorem g1017 : ((1 : Nat) != 0 && Nat.blt 1 100 && Nat.blt 17 18 && tg (TX1 17).2.2.1 == 2 && 1000 * 1 + 17 == 1017) = true := by decide +kernel
theorem kc2 : kcl[2]? = some (RX2, TX2, 15) := rfl
theorem g2000 : ((2 : Nat) != 0 && Nat.blt 2 100 && Nat.blt 0 15 && tg (TX2 0).2.2.1 == 2 && 1000 * 2 + 0 == 2000) = true := by decide +kernel
theorem g2001 : ((2 : Nat) != 0 && Nat.blt 2 100 && Nat.blt 1 15 && tg (TX2 1).2.2.1 == 2 && 1000 * 2 + 1 == 2001) = true := by decide +kernel
theorem g2002 : ((2 : Nat) != 0 && Nat.blt 2 100 && Nat.blt 2 15 && tg (TX2 2).2.2.1 == 2 && 1000 * 2 + 2 == 2002) = true := by decide +kernel
theorem g2003 : ((2 : Nat) != 0 && Nat.blt 2 100 && Nat.blt 3 15 && tg (TX2 3).2.2.1 == 2 && 1000 * 2 + 3 == 2003) = true := by decide +kernel
theorem g2004 : ((2 : Nat) != 0 && Nat.blt 2 100 && Nat.blt 4 15 && tg (TX2 4).2.2.1 == 2 && 1000 * 2 + 4 == 2004) = true := by decide +kernel
theorem g2005 : ((2 : Nat) != 0 && Nat.blt 2 100 && Nat.blt 5 15 && tg (TX2 5).2.2.1 == 2 && 1000 * 2 + 5 == 2005) = true := by decide +kernel
theorem g2006 : ((2 : Nat) != 0 && Nat.blt 2 100 && Nat.blt 6 15 && tg (TX2 6).2.2.1 == 2 && 1000 * 2 + 6 == 2006) = true := by decide +kernel
theorem g2007 : ((2 : Nat) != 0 && Nat.blt 2 100 && Nat.blt 7 15 && tg (TX2 7).2.2.1 == 2 && 1000 * 2 + 7 == 2007) = true := by decide +kernel
theorem g2008 : ((2 : Nat) != 0 && Nat.blt 2 100 && Nat.blt 8 15 && tg (TX2 8).2.2.1 == 2 && 1000 * 2 + 8 == 2008) = true := by decide +kernel
theorem g2009 : ((2 : Nat) != 0 && Nat.blt 2 100 && Nat.blt 9 15 && tg (TX2 9).2.2.1 == 2 && 1000 * 2 + 9 == 2009) = true := by decide +kernel
theorem g2010 : ((2 : Nat) != 0 && Nat.blt 2 100 && Nat.blt 10 15 && tg (TX2 10).2.2.1 == 2 && 1000 * 2 + 10 == 2010) = true := by decide +kernel
theorem g2011 : ((2 : Nat) != 0 && Nat.blt 2 100 && Nat.blt 11 15 && tg (TX2 11).2.2.1 == 2 && 1000 * 2 + 11 == 2011) = true := by decide +kernel
theorem g2012 : ((2 : Nat) != 0 && Nat.blt 2 100 && Nat.blt 12 15 && tg (TX2 12).2.2.1 == 2 && 1000 * 2 + 12 == 2012) = true := by decide +kernel
theorem g2013 : ((2 : Nat) != 0 && Nat.blt 2 100 && Nat.blt 13 15 && tg (TX2 13).2.2.1 == 2 && 1000 * 2 + 13 == 2013) = true := by decide +kernel
theorem g2014 : ((2 : Nat) != 0 && Nat.blt 2 100 && Nat.blt 14 15 && tg (TX2 14).2.2.1 == 2 && 1000 * 2 + 14 == 2014) = true := by decide +kernel
theorem kc3 : kcl[3]? = some (RX3, TX3, 18) := rfl
theorem g3000 : ((3 : Nat) != 0 && Nat.blt 3 100 && Nat.blt 0 18 && tg (TX3 0).2.2.1 == 2 && 1000 * 3 + 0 == 3000) = true := by decide +kernel
theorem g3001 : ((3 : Nat) != 0 && Nat.blt 3 100 && Nat.blt 1 18 && tg (TX3 1).2.2.1 == 2 && 1000 * 3 + 1 == 3001) = true := by decide +kernel
theorem g3002 : ((3 : Nat) != 0 && Nat.blt 3 100 && Nat.blt 2 18 && tg (TX3 2).2.2.1 == 2 && 1000 * 3 + 2 == 3002) = true := by decide +kernel
theorem g3003 : ((3 : Nat) != 0 && Nat.blt 3 100 && Nat.blt 3 18 && tg (TX3 3).2.2.1 == 2 && 1000 * 3 + 3 == 3003) = true := by decide +kernel
theorem g3004 : ((3 : Nat) != 0 && Nat.blt 3 100 && Nat.blt 4 18 && tg (TX3 4).2.2.1 == 2 && 1000 * 3 + 4 == 3004) = true := by decide +kernel
theorem g3005 : ((3 : Nat) != 0 && Nat.blt 3 100 && Nat.blt 5 18 && tg (TX3 5).2.2.1 == 2 && 1000 * 3 + 5 == 3005) = true := by decide +kernel
theorem g3006 : ((3 : Nat) != 0 && Nat.blt 3 100 && Nat.blt 6 18 && tg (TX3 6).2.2.1 == 2 && 1000 * 3 + 6 == 3006) = true := by decide +kernel
theorem g3007 : ((3 : Nat) != 0 && Nat.blt 3 100 && Nat.blt 7 18 && tg (TX3 7).2.2.1 == 2 && 1000 * 3 + 7 == 3007) = true := by decide +kernel
theorem g3008 : ((3 : Nat) != 0 && Nat.blt 3 100 && Nat.blt 8 18 && tg (TX3 8).2.2.1 == 2 && 1000 * 3 + 8 == 3008) = true := by decide +kernel
theorem g3009 : ((3 : Nat) != 0 && Nat.blt 3 100 && Nat.blt 9 18 && tg (TX3 9).2.2.1 == 2 && 1000 * 3 + 9 == 3009) = true := by decide +kernel
theorem g3010 : ((3 : Nat) != 0 && Nat.blt 3 100 && Nat.blt 10 18 && tg (TX3 10).2.2.1 == 2 && 1000 * 3 + 10 == 3010) = true := by decide +kernel
theorem g3011 : ((3 : Nat) != 0 && Nat.blt 3 100 && Nat.blt 11 18 && tg (TX3 11).2.2.1 == 2 && 1000 * 3 + 11 == 3011) = true := by decide +kernel
theorem g3012 : ((3 : Nat) != 0 && Nat.blt 3 100 && Nat.blt 12 18 && tg (TX3 12).2.2.1 == 2 && 1000 * 3 + 12 == 3012) = true := by decide +kernel
theorem g3013 : ((3 : Nat) != 0 && Nat.blt 3 100 && Nat.blt 13 18 && tg (TX3 13).2.2.1 == 2 && 1000 * 3 + 13 == 3013) = true := by decide +kernel
theorem g3014 : ((3 : Nat) != 0 && Nat.blt 3 100 && Nat.blt 14 18 && tg (TX3 14).2.2.1 == 2 && 1000 * 3 + 14 == 3014) = true := by decide +kernel
theorem g3015 : ((3 : Nat) != 0 && Nat.blt 3 100 && Nat.blt 15 18 && tg (TX3 15).2.2.1 == 2 && 1000 * 3 + 15 == 3015) = true := by decide +kernel
theorem g3016 : ((3 : Nat) != 0 && Nat.blt 3 100 && Nat.blt 16 18 && tg (TX3 16).2.2.1 == 2 && 1000 * 3 + 16 == 3016) = true := by decide +kernel
theorem g3017 : ((3 : Nat) != 0 && Nat.blt 3 100 && Nat.blt 17 18 && tg (TX3 17).2.2.1 == 2 && 1000 * 3 + 17 == 3017) = true := by decide +kernel
theorem kc4 : kcl[4]? = some (RX4, TX4, 9) := rfl
theorem g4000 : ((4 : Nat) != 0 && Nat.blt 4 100 && Nat.blt 0 9 && tg (TX4 0).2.2.1 == 2 && 1000 * 4 + 0 == 4000) = true := by decide +kernel
theorem g4001 : ((4 : Nat) != 0 && Nat.blt 4 100 && Nat.blt 1 9 && tg (TX4 1).2.2.1 == 2 && 1000 * 4 + 1 == 4001) = true := by decide +kernel
theorem g4002 : ((4 : Nat) != 0 && Nat.blt 4 100 && Nat.blt 2 9 && tg (TX4 2).2.2.1 == 2 && 1000 * 4 + 2 == 4002) = true := by decide +kernel
theorem g4003 : ((4 : Nat) != 0 && Nat.blt 4 100 && Nat.blt 3 9 && tg (TX4 3).2.2.1 == 2 && 1000 * 4 + 3 == 4003) = true := by decide +kernel
theorem g4004 : ((4 : Nat) != 0 && Nat.blt 4 100 && Nat.blt 4 9 && tg (TX4 4).2.2.1 == 2 && 1000 * 4 + 4 == 4004) = true := by decide +kernel
theorem g4005 : ((4 : Nat) != 0 && Nat.blt 4 100 && Nat.blt 5 9 && tg (TX4 5).2.2.1 == 2 && 1000 * 4 + 5 == 4005) = true := by decide +kernel
theorem g4006 : ((4 : Nat) != 0 && Nat.blt 4 100 && Nat.blt 6 9 && tg (TX4 6).2.2.1 == 2 && 1000 * 4 + 6 == 4006) = true := by decide +kernel
theorem g4007 : ((4 : Nat) != 0 && Nat.blt 4 100 && Nat.blt 7 9 && tg (TX4 7).2.2.1 == 2 && 1000 * 4 + 7 == 4007) = true := by decide +kernel
theorem g4008 : ((4 : Nat) != 0 && Nat.blt 4 100 && Nat.blt 8 9 && tg (TX4 8).2.2.1 == 2 && 1000 * 4 + 8 == 4008) = true := by decide +kernel
theorem kc5 : kcl[5]? = some (RX5, TX5, 1) := rfl
theorem g5000 : ((5 : Nat) != 0 && Nat.blt 5 100 && Nat.blt 0 1 && tg (TX5 0).2.2.1 == 2 && 1000 * 5 + 0 == 5000) = true := by decide +kernel
theorem kc6 : kcl[6]? = some (RX6, TX6, 3) := rfl
theorem g6000 : ((6 : Nat) != 0 && Nat.blt 6 100 && Nat.blt 0 3 && tg (TX6 0).2.2.1 == 2 && 1000 * 6 + 0 == 6000) = true := by decide +kernel
theorem g6001 : ((6 : Nat) != 0 && Nat.blt 6 100 && Nat.blt 1 3 && tg (TX6 1).2.2.1 == 2 && 1000 * 6 + 1 == 6001) = true := by decide +kernel
theorem g6002 : ((6 : Nat) != 0 && Nat.blt 6 100 && Nat.blt 2 3 && tg (TX6 2).2.2.1 == 2 && 1000 * 6 + 2 == 6002) = true := by decide +kernel
theorem kc7 : kcl[7]? = some (RX7, TX7, 13) := rfl
theorem g7000 : ((7 : Nat) != 0 && Nat.blt 7 100 && Nat.blt 0 13 && tg (TX7 0).2.2.1 == 2 && 1000 * 7 + 0 == 7000) = true := by decide +kernel
theorem g7001 : ((7 : Nat) != 0 && Nat.blt 7 100 && Nat.blt 1 13 && tg (TX7 1).2.2.1 == 2 && 1000 * 7 + 1 == 7001) = true := by decide +kernel
theorem g7002 : ((7 : Nat) != 0 && Nat.blt 7 100 && Nat.blt 2 13 && tg (TX7 2).2.2.1 == 2 && 1000 * 7 + 2 == 7002) = true := by decide +kernel
theorem g7003 : ((7 : Nat) != 0 && Nat.blt 7 100 && Nat.blt 3 13 && tg (TX7 3).2.2.1 == 2 && 1000 * 7 + 3 == 7003) = true := by decide +kernel
theorem g7004 : ((7 : Nat) != 0 && Nat.blt 7 100 && Nat.blt 4 13 && tg (TX7 4).2.2.1 == 0 && 1000 * 7 + 4 == 7004) = true := by decide +kernel
theorem g7005 : ((7 : Nat) != 0 && Nat.blt 7 100 && Nat.blt 5 13 && tg (TX7 5).2.2.1 == 0 && 1000 * 7 + 5 == 7005) = true := by decide +kernel
theorem g7006 : ((7 : Nat) != 0 && Nat.blt 7 100 && Nat.blt 6 13 && tg (TX7 6).2.2.1 == 0 && 1000 * 7 + 6 == 7006) = true := by decide +kernel
theorem g7007 : ((7 : Nat) != 0 && Nat.blt 7 100 && Nat.blt 7 13 && tg (TX7 7).2.2.1 == 2 && 1000 * 7 + 7 == 7007) = true := by decide +kernel
theorem g7008 : ((7 : Nat) != 0 && Nat.blt 7 100 && Nat.blt 8 13 && tg (TX7 8).2.2.1 == 0 && 1000 * 7 + 8 == 7008) = true := by decide +kernel
theorem g7009 : ((7 : Nat) != 0 && Nat.blt 7 100 && Nat.blt 9 13 && tg (TX7 9).2.2.1 == 2 && 1000 * 7 + 9 == 7009) = true := by decide +kernel
theorem g7010 : ((7 : Nat) != 0 && Nat.blt 7 100 && Nat.blt 10 13 && tg (TX7 10).2.2.1 == 2 && 1000 * 7 + 10 == 7010) = true := by decide +kernel
theorem g7011 : ((7 : Nat) != 0 && Nat.blt 7 100 && Nat.blt 11 13 && tg (TX7 11).2.2.1 == 2 && 1000 * 7 + 11 == 7011) = true := by decide +kernel
theorem g7012 : ((7 : Nat) != 0 && Nat.blt 7 100 && Nat.blt 12 13 && tg (TX7 12).2.2.1 == 2 && 1000 * 7 + 12 == 7012) = true := by decide +kernel
theorem kc8 : kcl[8]? = some (RX8, TX8, 8) := rfl
theorem g8000 : ((8 : Nat) != 0 && Nat.blt 8 100 && Nat.blt 0 8 && tg (TX8 0).2.2.1 == 2 && 1000 * 8 + 0 == 8000) = true := by decide +kernel
theorem g8001 : ((8 : Nat) != 0 && Nat.blt 8 100 && Nat.blt 1 8 && tg (TX8 1).2.2.1 == 2 && 1000 * 8 + 1 == 8001) = true := by decide +kernel
theorem g8002 : ((8 : Nat) != 0 && Nat.blt 8 100 && Nat.blt 2 8 && tg (TX8 2).2.2.1 == 2 && 1000 * 8 + 2 == 8002) = true := by decide +kernel
theorem g8003 : ((8 : Nat) != 0 && Nat.blt 8 100 && Nat.blt 3 8 && tg (TX8 3).2.2.1 == 0 && 1000 * 8 + 3 == 8003) = true := by decide +kernel
theorem g8004 : ((8 : Nat) != 0 && Nat.blt 8 100 && Nat.blt 4 8 && tg (TX8 4).2.2.1 == 2 && 1000 * 8 + 4 == 8004) = true := by decide +kernel
theorem g8005 : ((8 : Nat) != 0 && Nat.blt 8 100 && Nat.blt 5 8 && tg (TX8 5).2.2.1 == 2 && 1000 * 8 + 5 == 8005) = true := by decide +kernel
theorem g8006 : ((8 : Nat) != 0 && Nat.blt 8 100 && Nat.blt 6 8 && tg (TX8 6).2.2.1 == 2 && 1000 * 8 + 6 == 8006) = true := by decide +kernel
theorem g8007 : ((8 : Nat) != 0 && Nat.blt 8 100 && Nat.blt 7 8 && tg (TX8 7).2.2.1 == 0 && 1000 * 8 + 7 == 8007) = true := by decide +kernel
theorem kc9 : kcl[9]? = some (RX9, TX9, 3) := rfl
theorem g9000 : ((9 : Nat) != 0 && Nat.blt 9 100 && Nat.blt 0 3 && tg (TX9 0).2.2.1 == 2 && 1000 * 9 + 0 == 9000) = true := by decide +kernel
theorem g9001 : ((9 : Nat) != 0 && Nat.blt 9 100 && Nat.blt 1 3 && tg (TX9 1).2.2.1 == 0 && 1000 * 9 + 1 == 9001) = true := by decide +kernel
theorem g9002 : ((9 : Nat) != 0 && Nat.blt 9 100 && Nat.blt 2 3 && tg (TX9 2).2.2.1 == 1 && 1000 * 9 + 2 == 9002) = true := by decide +kernel
theorem kc10 : kcl[10]? = some (RX10, TX10, 5) := rfl
theorem g10000 : ((10 : Nat) != 0 && Nat.blt 10 100 && Nat.blt 0 5 && tg (TX10 0).2.2.1 == 2 && 1000 * 10 + 0 == 10000) = true := by decide +kernel
theorem g10001 : ((10 : Nat) != 0 && Nat.blt 10 100 && Nat.blt 1 5 && tg (TX10 1).2.2.1 == 1 && 1000 * 10 + 1 == 10001) = true := by decide +kernel
theorem g10002 : ((10 : Nat) != 0 && Nat.blt 10 100 && Nat.blt 2 5 && tg (TX10 2).2.2.1 == 2 && 1000 * 10 + 2 == 10002) = true := by decide +kernel
theorem g10003 : ((10 : Nat) != 0 && Nat.blt 10 100 && Nat.blt 3 5 && tg (TX10 3).2.2.1 == 0 && 1000 * 10 + 3 == 10003) = true := by decide +kernel
theorem g10004 : ((10 : Nat) != 0 && Nat.blt 10 100 && Nat.blt 4 5 && tg (TX10 4).2.2.1 == 2 && 1000 * 10 + 4 == 10004) = true := by decide +kernel
theorem kc11 : kcl[11]? = some (RX11, TX11, 2) := rfl
theorem g11000 : ((11 : Nat) != 0 && Nat.blt 11 100 && Nat.blt 0 2 && tg (TX11 0).2.2.1 == 2 && 1000 * 11 + 0 == 11000) = true := by decide +kernel
theorem g11001 : ((11 : Nat) != 0 && Nat.blt 11 100 && Nat.blt 1 2 && tg (TX11 1).2.2.1 == 0 && 1000 * 11 + 1 == 11001) = true := by decide +kernel
theorem kc12 : kcl[12]? = some (RX12, TX12, 6) := rfl
theorem g12000 : ((12 : Nat) != 0 && Nat.blt 12 100 && Nat.blt 0 6 && tg (TX12 0).2.2.1 == 1 && 1000 * 12 + 0 == 12000) = true := by decide +kernel
theorem g12001 : ((12 : Nat) != 0 && Nat.blt 12 100 && Nat.blt 1 6 && tg (TX12 1).2.2.1 == 1 && 1000 * 12 + 1 == 12001) = true := by decide +kernel
theorem g12002 : ((12 : Nat) != 0 && Nat.blt 12 100 && Nat.blt 2 6 && tg (TX12 2).2.2.1 == 2 && 1000 * 12 + 2 == 12002) = true := by decide +kernel
theorem g12003 : ((12 : Nat) != 0 && Nat.blt 12 100 && Nat.blt 3 6 && tg (TX12 3).2.2.1 == 2 && 1000 * 12 + 3 == 12003) = true := by decide +kernel
theorem g12004 : ((12 : Nat) != 0 && Nat.blt 12 100 && Nat.blt 4 6 && tg (TX12 4).2.2.1 == 0 && 1000 * 12 + 4 == 12004) = true := by decide +kernel
theorem g12005 : ((12 : Nat) != 0 && Nat.blt 12 100 && Nat.blt 5 6 && tg (TX12 5).2.2.1 == 0 && 1000 * 12 + 5 == 12005) = true := by decide +kernel
theorem kc13 : kcl[13]? = some (RX13, TX13, 4) := rfl
theorem g13000 : ((13 : Nat) != 0 && Nat.blt 13 100 && Nat.blt 0 4 && tg (TX13 0).2.2.1 == 2 && 1000 * 13 + 0 == 13000) = true := by decide +kernel
theorem g13001 : ((13 : Nat) != 0 && Nat.blt 13 100 && Nat.blt 1 4 && tg (TX13 1).2.2.1 == 0 && 1000 * 13 + 1 == 13001) = true := by decide +kernel
theorem g13002 : ((13 : Nat) != 0 && Nat.blt 13 100 && Nat.blt 2 4 && tg (TX13 2).2.2.1 == 1 && 1000 * 13 + 2 == 13002) = true := by decide +kernel
theorem g13003 : ((13 : Nat) != 0 && Nat.blt 13 100 && Nat.blt 3 4 && tg (TX13 3).2.2.1 == 2 && 1000 * 13 + 3 == 13003) = true := by decide +kernel
theorem kc14 : kcl[14]? = some (RX14, TX14, 2) := rfl
theorem g14000 : ((14 : Nat) != 0 && Nat.blt 14 100 && Nat.blt 0 2 && tg (TX14 0).2.2.1 == 1 && 1000 * 14 + 0 == 14000) = true := by decide +kernel
theorem g14001 : ((14 : Nat) != 0 && Nat.blt 14 100 && Nat.blt 1 2 && tg (TX14 1).2.2.1 == 2 && 1000 * 14 + 1 == 14001) = true := by decide +kernel
theorem kc15 : kcl[15]? = some (RX15, TX15, 12) := rfl
theorem g15000 : ((15 : Nat) != 0 && Nat.blt 15 100 && Nat.blt 0 12 && tg (TX15 0).2.2.1 == 0 && 1000 * 15 + 0 == 15000) = true := by decide +kernel
theorem g15001 : ((15 : Nat) != 0 && Nat.blt 15 100 && Nat.blt 1 12 && tg (TX15 1).2.2.1 == 2 && 1000 * 15 + 1 == 15001) = true := by decide +kernel
theorem g15002 : ((15 : Nat) != 0 && Nat.blt 15 100 && Nat.blt 2 12 && tg (TX15 2).2.2.1 == 0 && 1000 * 15 + 2 == 15002) = true := by decide +kernel
theorem g15003 : ((15 : Nat) != 0 && Nat.blt 15 100 && Nat.blt 3 12 && tg (TX15 3).2.2.1 == 2 && 1000 * 15 + 3 == 15003) = true := by decide +kernel
theorem g15004 : ((15 : Nat) != 0 && Nat.blt 15 100 && Nat.blt 4 12 && tg (TX15 4).2.2.1 == 2 && 1000 * 15 + 4 == 15004) = true := by decide +kernel
theorem g15005 : ((15 : Nat) != 0 && Nat.blt 15 100 && Nat.blt 5 12 && tg (TX15 5).2.2.1 == 0 && 1000 * 15 + 5 == 15005) = true := by decide +kernel
theorem g15006 : ((15 : Nat) != 0 && Nat.blt 15 100 && Nat.blt 6 12 && tg (TX15 6).2.2.1 == 2 && 1000 * 15 + 6 == 15006) = true := by decide +kernel
theorem g15007 : ((15 : Nat) != 0 && Nat.blt 15 100 && Nat.blt 7 12 && tg (TX15 7).2.2.1 == 1 && 1000 * 15 + 7 == 15007) = true := by decide +kernel
theorem g15008 : ((15 : Nat) != 0 && Nat.blt 15 100 && Nat.blt 8 12 && tg (TX15 8).2.2.1 == 0 && 1000 * 15 + 8 == 15008) = true := by decide +kernel
theorem g15009 : ((15 : Nat) != 0 && Nat.blt 15 100 && Nat.blt 9 12 && tg (TX15 9).2.2.1 == 2 && 1000 * 15 + 9 == 15009) = true := by decide +kernel
theorem g15010 : ((15 : Nat) != 0 && Nat.blt 15 100 && Nat.blt 10 12 && tg (TX15 10).2.2.1 == 2 && 1000 * 15 + 10 == 15010) = true := by decide +kernel
theorem g15011 : ((15 : Nat) != 0 && Nat.blt 15 100 && Nat.blt 11 12 && tg (TX15 11).2.2.1 == 2 && 1000 * 15 + 11 == 15011) = true := by decide +kernel
theorem kc16 : kcl[16]? = some (RX16, TX16, 3) := rfl
theorem g16000 : ((16 : Nat) != 0 && Nat.blt 16 100 && Nat.blt 0 3 && tg (TX16 0).2.2.1 == 2 && 1000 * 16 + 0 == 16000) = true := by decide +kernel
theorem g16001 : ((16 : Nat) != 0 && Nat.blt 16 100 && Nat.blt 1 3 && tg (TX16 1).2.2.1 == 0 && 1000 * 16 + 1 == 16001) = true := by decide +kernel
theorem g16002 : ((16 : Nat) != 0 && Nat.blt 16 100 && Nat.blt 2 3 && tg (TX16 2).2.2.1 == 0 && 1000 * 16 + 2 == 16002) = true := by decide +kernel
theorem kc17 : kcl[17]? = some (RX17, TX17, 6) := rfl
theorem g17000 : ((17 : Nat) != 0 && Nat.blt 17 100 && Nat.blt 0 6 && tg (TX17 0).2.2.1 == 2 && 1000 * 17 + 0 == 17000) = true := by decide +kernel
theorem g17001 : ((17 : Nat) != 0 && Nat.blt 17 100 && Nat.blt 1 6 && tg (TX17 1).2.2.1 == 2 && 1000 * 17 + 1 == 17001) = true := by decide +kernel
theorem g17002 : ((17 : Nat) != 0 && Nat.blt 17 100 && Nat.blt 2 6 && tg (TX17 2).2.2.1 == 2 && 1000 * 17 + 2 == 17002) = true := by decide +kernel
theorem g17003 : ((17 : Nat) != 0 && Nat.blt 17 100 && Nat.blt 3 6 && tg (TX17 3).2.2.1 == 2 && 1000 * 17 + 3 == 17003) = true := by decide +kernel
theorem g17004 : ((17 : Nat) != 0 && Nat.blt 17 100 && Nat.blt 4 6 && tg (TX17 4).2.2.1 == 2 && 1000 * 17 + 4 == 17004) = true := by decide +kernel
theorem g17005 : ((17 : Nat) != 0 && Nat.blt 17 100 && Nat.blt 5 6 && tg (TX17 5).2.2.1 == 0 && 1000 * 17 + 5 == 17005) = true := by decide +kernel
theorem kc18 : kcl[18]? = some (RX18, TX18, 7) := rfl
theorem g18000 : ((18 : Nat) != 0 && Nat.blt 18 100 && Nat.blt 0 7 && tg (TX18 0).2.2.1 == 0 && 1000 * 18 + 0 == 18000) = true := by decide +kernel
theorem g18001 : ((18 : Nat) != 0 && Nat.blt 18 100 && Nat.blt 1 7 && tg (TX18 1).2.2.1 == 0 && 1000 * 18 + 1 == 18001) = true := by decide +kernel
theorem g18002 : ((18 : Nat) != 0 && Nat.blt 18 100 && Nat.blt 2 7 && tg (TX18 2).2.2.1 == 2 && 1000 * 18 + 2 == 18002) = true := by decide +kernel
theorem g18003 : ((18 : Nat) != 0 && Nat.blt 18 100 && Nat.blt 3 7 && tg (TX18 3).2.2.1 == 1 && 1000 * 18 + 3 == 18003) = true := by decide +kernel
theorem g18004 : ((18 : Nat) != 0 && Nat.blt 18 100 && Nat.blt 4 7 && tg (TX18 4).2.2.1 == 1 && 1000 * 18 + 4 == 18004) = true := by decide +kernel
theorem g18005 : ((18 : Nat) != 0 && Nat.blt 18 100 && Nat.blt 5 7 && tg (TX18 5).2.2.1 == 2 && 1000 * 18 + 5 == 18005) = true := by decide +kernel
theorem g18006 : ((18 : Nat) != 0 && Nat.blt 18 100 && Nat.blt 6 7 && tg (TX18 6).2.2.1 == 2 && 1000 * 18 + 6 == 18006) = true := by decide +kernel
theorem kc19 : kcl[19]? = some (RX19, TX19, 5) := rfl
theorem g19000 : ((19 : Nat) != 0 && Nat.blt 19 100 && Nat.blt 0 5 && tg (TX19 0).2.2.1 == 0 && 1000 * 19 + 0 == 19000) = true := by decide +kernel
theorem g19001 : ((19 : Nat) != 0 && Nat.blt 19 100 && Nat.blt 1 5 && tg (TX19 1).2.2.1 == 0 && 1000 * 19 + 1 == 19001) = true := by decide +kernel
theorem g19002 : ((19 : Nat) != 0 && Nat.blt 19 100 && Nat.blt 2 5 && tg (TX19 2).2.2.1 == 0 && 1000 * 19 + 2 == 19002) = true := by decide +kernel
theorem g19003 : ((19 : Nat) != 0 && Nat.blt 19 100 && Nat.blt 3 5 && tg (TX19 3).2.2.1 == 0 && 1000 * 19 + 3 == 19003) = true := by decide +kernel
theorem g19004 : ((19 : Nat) != 0 && Nat.blt 19 100 && Nat.blt 4 5 && tg (TX19 4).2.2.1 == 1 && 1000 * 19 + 4 == 19004) = true := by decide +kernel
theorem kc20 : kcl[20]? = some (RX20, TX20, 3) := rfl
theorem g20000 : ((20 : Nat) != 0 && Nat.blt 20 100 && Nat.blt 0 3 && tg (TX20 0).2.2.1 == 1 && 1000 * 20 + 0 == 20000) = true := by decide +kernel
theorem g20001 : ((20 : Nat) != 0 && Nat.blt 20 100 && Nat.blt 1 3 && tg (TX20 1).2.2.1 == 0 && 1000 * 20 + 1 == 20001) = true := by decide +kernel
theorem g20002 : ((20 : Nat) != 0 && Nat.blt 20 100 && Nat.blt 2 3 && tg (TX20 2).2.2.1 == 0 && 1000 * 20 + 2 == 20002) = true := by decide +kernel
theorem kc21 : kcl[21]? = some (RX21, TX21, 7) := rfl
theorem g21000 : ((21 : Nat) != 0 && Nat.blt 21 100 && Nat.blt 0 7 && tg (TX21 0).2.2.1 == 2 && 1000 * 21 + 0 == 21000) = true := by decide +kernel
theorem g21001 : ((21 : Nat) != 0 && Nat.blt 21 100 && Nat.blt 1 7 && tg (TX21 1).2.2.1 == 2 && 1000 * 21 + 1 == 21001) = true := by decide +kernel
theorem g21002 : ((21 : Nat) != 0 && Nat.blt 21 100 && Nat.blt 2 7 && tg (TX21 2).2.2.1 == 2 && 1000 * 21 + 2 == 21002) = true := by decide +kernel
theorem g21003 : ((21 : Nat) != 0 && Nat.blt 21 100 && Nat.blt 3 7 && tg (TX21 3).2.2.1 == 2 && 1000 * 21 + 3 == 21003) = true := by decide +kernel
theorem g21004 : ((21 : Nat) != 0 && Nat.blt 21 100 && Nat.blt 4 7 && tg (TX21 4).2.2.1 == 2 && 1000 * 21 + 4 == 21004) = true := by decide +kernel
theorem g21005 : ((21 : Nat) != 0 && Nat.blt 21 100 && Nat.blt 5 7 && tg (TX21 5).2.2.1 == 0 && 1000 * 21 + 5 == 21005) = true := by decide +kernel
theorem g21006 : ((21 : Nat) != 0 && Nat.blt 21 100 && Nat.blt 6 7 && tg (TX21 6).2.2.1 == 0 && 1000 * 21 + 6 == 21006) = true := by decide +kernel
theorem kc22 : kcl[22]? = some (RX22, TX22, 2) := rfl
theorem g22000 : ((22 : Nat) != 0 && Nat.blt 22 100 && Nat.blt 0 2 && tg (TX22 0).2.2.1 == 2 && 1000 * 22 + 0 == 22000) = true := by decide +kernel
theorem g22001 : ((22 : Nat) != 0 && Nat.blt 22 100 && Nat.blt 1 2 && tg (TX22 1).2.2.1 == 0 && 1000 * 22 + 1 == 22001) = true := by decide +kernel
theorem kc23 : kcl[23]? = some (RX23, TX23, 3) := rfl
theorem g23000 : ((23 : Nat) != 0 && Nat.blt 23 100 && Nat.blt 0 3 && tg (TX23 0).2.2.1 == 2 && 1000 * 23 + 0 == 23000) = true := by decide +kernel
theorem g23001 : ((23 : Nat) != 0 && Nat.blt 23 100 && Nat.blt 1 3 && tg (TX23 1).2.2.1 == 2 && 1000 * 23 + 1 == 23001) = true := by decide +kernel
theorem g23002 : ((23 : Nat) != 0 && Nat.blt 23 100 && Nat.blt 2 3 && tg (TX23 2).2.2.1 == 0 && 1000 * 23 + 2 == 23002) = true := by decide +kernel
theorem kc24 : kcl[24]? = some (RX24, TX24, 119) := rfl
theorem g24000 : ((24 : Nat) != 0 && Nat.blt 24 100 && Nat.blt 0 119 && tg (TX24 0).2.2.1 == 2 && 1000 * 24 + 0 == 24000) = true := by decide +kernel
theorem g24001 : ((24 : Nat) != 0 && Nat.blt 24 100 && Nat.blt 1 119 && tg (TX24 1).2.2.1 == 2 && 1000 * 24 + 1 == 24001) = true := by decide +kernel
theorem g24002 : ((24 : Nat) != 0 && Nat.blt 24 100 && Nat.blt 2 119 && tg (TX24 2).2.2.1 == 2 && 1000 * 24 + 2 == 24002) = true := by decide +kernel
theorem g24003 : ((24 : Nat) != 0 && Nat.blt 24 100 && Nat.blt 3 119 && tg (TX24 3).2.2.1 == 2 && 1000 * 24 + 3 == 24003) = true := by decide +kernel
theorem g24004 : ((24 : Nat) != 0 && Nat.blt 24 100 && Nat.blt 4 119 && tg (TX24 4).2.2.1 == 2 && 1000 * 24 + 4 == 24004) = true := by decide +kernel
theorem g24005 : ((24 : Nat) != 0 && Nat.blt 24 100 && Nat.blt 5 119 && tg (TX24 5).2.2.1 == 2 && 1000 * 24 + 5 == 24005) = true := by decide +kernel
theorem g24006 : ((24 : Nat) != 0 && Nat.blt 24 100 && Nat.blt 6 119 && tg (TX24 6).2.2.1 == 2 && 1000 * 24 + 6 == 24006) = true := by decide +kernel
theorem g24007 : ((24 : Nat) != 0 && Nat.blt 24 100 && Nat.blt 7 119 && tg (TX24 7).2.2.1 == 2 && 1000 * 24 + 7 == 24007) = true := by decide +kernel
theorem g24008 : ((24 : Nat) != 0 && Nat.blt 24 100 && Nat.blt 8 119 && tg (TX24 8).2.2.1 == 2 && 1000 * 24 + 8 == 24008) = true := by decide +kernel
theorem g24009 : ((24 : Nat) != 0 && Nat.blt 24 100 && Nat.blt 9 119 && tg (TX24 9).2.2.1 == 2 && 1000 * 24 + 9 == 24009) = true := by decide +kernel
theorem g24010 : ((24 : Nat) != 0 && Nat.blt 24 100 && Nat.blt 10 119 && tg (TX24 10).2.2.1 == 2 && 1000 * 24 + 10 == 24010) = true := by decide +kernel
theorem g24011 : ((24 : Nat) != 0 && Nat.blt 24 100 && Nat.blt 11 119 && tg (TX24 11).2.2.1 == 2 && 1000 * 24 + 11 == 24011) = true := by decide +kernel
theorem g24012 : ((24 : Nat) != 0 && Nat.blt 24 100 && Nat.blt 12 119 && tg (TX24 12).2.2.1 == 2 && 1000 * 24 + 12 == 24012) = true := by decide +kernel
theorem g24013 : ((24 : Nat) != 0 && Nat.blt 24 100 && Nat.blt 13 119 && tg (TX24 13).2.2.1 == 2 && 1000 * 24 + 13 == 24013) = true := by decide +kernel
theorem g24014 : ((24 : Nat) != 0 && Nat.blt 24 100 && Nat.blt 14 119 && tg (TX24 14).2.2.1 == 2 && 1000 * 24 + 14 == 24014) = true := by decide +kernel
theorem g24015 : ((24 : Nat) != 0 && Nat.blt 24 100 && Nat.blt 15 119 && tg (TX24 15).2.2.1 == 2 && 1000 * 24 + 15 == 24015) = true := by decide +kernel
theorem g24016 : ((24 : Nat) != 0 && Nat.blt 24 100 && Nat.blt 16 119 && tg (TX24 16).2.2.1 == 2 && 1000 * 24 + 16 == 24016) = true := by decide +kernel
theorem g24017 : ((24 : Nat) != 0 && Nat.blt 24 100 && Nat.blt 17 119 && tg (TX24 17).2.2.1 == 2 && 1000 * 24 + 17 == 24017) = true := by decide +kernel
theorem g24018 : ((24 : Nat) != 0 && Nat.blt 24 100 && Nat.blt 18 119 && tg (TX24 18).2.2.1 == 2 && 1000 * 24 + 18 == 24018) = true := by decide +kernel
theorem g24019 : ((24 : Nat) != 0 && Nat.blt 24 100 && Nat.blt 19 119 && tg (TX24 19).2.2.1 == 2 && 1000 * 24 + 19 == 24019) = true := by decide +kernel
theorem g24020 : ((24 : Nat) != 0 && Nat.blt 24 100 && Nat.blt 20 119 && tg (TX24 20).2.2.1 == 2 && 1000 * 24 + 20 == 24020) = true := by decide +kernel
theorem g24021 : ((24 : Nat) != 0 && Nat.blt 24 100 && Nat.blt 21 119 && tg (TX24 21).2.2.1 == 2 && 1000 * 24 + 21 == 24021) = true := by decide +kernel
theorem g24022 : ((24 : Nat) != 0 && Nat.blt 24 100 && Nat.blt 22 119 && tg (TX24 22).2.2.1 == 2 && 1000 * 24 + 22 == 24022) = true := by decide +kernel
theorem g24023 : ((24 : Nat) != 0 && Nat.blt 24 100 && Nat.blt 23 119 && tg (TX24 23).2.2.1 == 2 && 1000 * 24 + 23 == 24023) = true := by decide +kernel
theorem g24024 : ((24 : Nat) != 0 && Nat.blt 24 100 && Nat.blt 24 119 && tg (TX24 24).2.2.1 == 2 && 1000 * 24 + 24 == 24024) = true := by decide +kernel
theorem g24025 : ((24 : Nat) != 0 && Nat.blt 24 100 && Nat.blt 25 119 && tg (TX24 25).2.2.1 == 2 && 1000 * 24 + 25 == 24025) = true := by decide +kernel
theorem g24026 : ((24 : Nat) != 0 && Nat.blt 24 100 && Nat.blt 26 119 && tg (TX24 26).2.2.1 == 2 && 1000 * 24 + 26 == 24026) = true := by decide +kernel
theorem g24027 : ((24 : Nat) != 0 && Nat.blt 24 100 && Nat.blt 27 119 && tg (TX24 27).2.2.1 == 2 && 1000 * 24 + 27 == 24027) = true := by decide +kernel
theorem g24028 : ((24 : Nat) != 0 && Nat.blt 24 100 && Nat.blt 28 119 && tg (TX24 28).2.2.1 == 2 && 1000 * 24 + 28 == 24028) = true := by decide +kernel
theorem g24029 : ((24 : Nat) != 0 && Nat.blt 24 100 && Nat.blt 29 119 && tg (TX24 29).2.2.1 == 2 && 1000 * 24 + 29 == 24029) = true := by decide +kernel
theorem g24030 : ((24 : Nat) != 0 && Nat.blt 24 100 && Nat.blt 30 119 && tg (TX24 30).2.2.1 == 2 && 1000 * 24 + 30 == 24030) = true := by decide +kernel
theorem g24031 : ((24 : Nat) != 0 && Nat.blt 24 100 && Nat.blt 31 119 && tg (TX24 31).2.2.1 == 2 && 1000 * 24 + 31 == 24031) = true := by decide +kernel
theorem g24032 : ((24 : Nat) != 0 && Nat.blt 24 100 && Nat.blt 32 119 && tg (TX24 32).2.2.1 == 2 && 1000 * 24 + 32 == 24032) = true := by decide +kernel
theorem g24033 : ((24 : Nat) != 0 && Nat.blt 24 100 && Nat.blt 33 119 && tg (TX24 33).2.2.1 == 2 && 1000 * 24 + 33 == 24033) = true := by decide +kernel
theorem g24034 : ((24 : Nat) != 0 && Nat.blt 24 100 && Nat.blt 34 119 && tg (TX24 34).2.2.1 == 2 && 1000 * 24 + 34 == 24034) = true := by decide +kernel
theorem g24035 : ((24 : Nat) != 0 && Nat.blt 24 100 && Nat.blt 35 119 && tg (TX24 35).2.2.1 == 2 && 1000 * 24 + 35 == 24035) = true := by decide +kernel
theorem g24036 : ((24 : Nat) != 0 && Nat.blt 24 100 && Nat.blt 36 119 && tg (TX24 36).2.2.1 == 0 && 1000 * 24 + 36 == 24036) = true := by decide +kernel
theorem g24037 : ((24 : Nat) != 0 && Nat.blt 24 100 && Nat.blt 37 119 && tg (TX24 37).2.2.1 == 0 && 1000 * 24 + 37 == 24037) = true := by decide +kernel
theorem g24038 : ((24 : Nat) != 0 && Nat.blt 24 100 && Nat.blt 38 119 && tg (TX24 38).2.2.1 == 2 && 1000 * 24 + 38 == 24038) = true := by decide +kernel
theorem g24039 : ((24 : Nat) != 0 && Nat.blt 24 100 && Nat.blt 39 119 && tg (TX24 39).2.2.1 == 0 && 1000 * 24 + 39 == 24039) = true := by decide +kernel
theorem g24040 : ((24 : Nat) != 0 && Nat.blt 24 100 && Nat.blt 40 119 && tg (TX24 40).2.2.1 == 0 && 1000 * 24 + 40 == 24040) = true := by decide +kernel
theorem g24041 : ((24 : Nat) != 0 && Nat.blt 24 100 && Nat.blt 41 119 && tg (TX24 41).2.2.1 == 0 && 1000 * 24 + 41 == 24041) = true := by decide +kernel
theorem g24042 : ((24 : Nat) != 0 && Nat.blt 24 100 && Nat.blt 42 119 && tg (TX24 42).2.2.1 == 2 && 1000 * 24 + 42 == 24042) = true := by decide +kernel
theorem g24043 : ((24 : Nat) != 0 && Nat.blt 24 100 && Nat.blt 43 119 && tg (TX24 43).2.2.1 == 2 && 1000 * 24 + 43 == 24043) = true := by decide +kernel
theorem g24044 : ((24 : Nat) != 0 && Nat.blt 24 100 && Nat.blt 44 119 && tg (TX24 44).2.2.1 == 2 && 1000 * 24 + 44 == 24044) = true := by decide +kernel
theorem g24045 : ((24 : Nat) != 0 && Nat.blt 24 100 && Nat.blt 45 119 && tg (TX24 45).2.2.1 == 2 && 1000 * 24 + 45 == 24045) = true := by decide +kernel
theorem g24046 : ((24 : Nat) != 0 && Nat.blt 24 100 && Nat.blt 46 119 && tg (TX24 46).2.2.1 == 2 && 1000 * 24 + 46 == 24046) = true := by decide +kernel
theorem g24047 : ((24 : Nat) != 0 && Nat.blt 24 100 && Nat.blt 47 119 && tg (TX24 47).2.2.1 == 0 && 1000 * 24 + 47 == 24047) = true := by decide +kernel
theorem g24048 : ((24 : Nat) != 0 && Nat.blt 24 100 && Nat.blt 48 119 && tg (TX24 48).2.2.1 == 0 && 1000 * 24 + 48 == 24048) = true := by decide +kernel
theorem g24049 : ((24 : Nat) != 0 && Nat.blt 24 100 && Nat.blt 49 119 && tg (TX24 49).2.2.1 == 2 && 1000 * 24 + 49 == 24049) = true := by decide +kernel
theorem g24050 : ((24 : Nat) != 0 && Nat.blt 24 100 && Nat.blt 50 119 && tg (TX24 50).2.2.1 == 0 && 1000 * 24 + 50 == 24050) = true := by decide +kernel
theorem g24051 : ((24 : Nat) != 0 && Nat.blt 24 100 && Nat.blt 51 119 && tg (TX24 51).2.2.1 == 2 && 1000 * 24 + 51 == 24051) = true := by decide +kernel
theorem g24052 : ((24 : Nat) != 0 && Nat.blt 24 100 && Nat.blt 52 119 && tg (TX24 52).2.2.1 == 0 && 1000 * 24 + 52 == 24052) = true := by decide +kernel
theorem g24053 : ((24 : Nat) != 0 && Nat.blt 24 100 && Nat.blt 53 119 && tg (TX24 53).2.2.1 == 2 && 1000 * 24 + 53 == 24053) = true := by decide +kernel
theorem g24054 : ((24 : Nat) != 0 && Nat.blt 24 100 && Nat.blt 54 119 && tg (TX24 54).2.2.1 == 2 && 1000 * 24 + 54 == 24054) = true := by decide +kernel
theorem g24055 : ((24 : Nat) != 0 && Nat.blt 24 100 && Nat.blt 55 119 && tg (TX24 55).2.2.1 == 0 && 1000 * 24 + 55 == 24055) = true := by decide +kernel
theorem g24056 : ((24 : Nat) != 0 && Nat.blt 24 100 && Nat.blt 56 119 && tg (TX24 56).2.2.1 == 2 && 1000 * 24 + 56 == 24056) = true := by decide +kernel
theorem g24057 : ((24 : Nat) != 0 && Nat.blt 24 100 && Nat.blt 57 119 && tg (TX24 57).2.2.1 == 2 && 1000 * 24 + 57 == 24057) = true := by decide +kernel
theorem g24058 : ((24 : Nat) != 0 && Nat.blt 24 100 && Nat.blt 58 119 && tg (TX24 58).2.2.1 == 2 && 1000 * 24 + 58 == 24058) = true := by decide +kernel
theorem g24059 : ((24 : Nat) != 0 && Nat.blt 24 100 && Nat.blt 59 119 && tg (TX24 59).2.2.1 == 2 && 1000 * 24 + 59 == 24059) = true := by decide +kernel
theorem g24060 : ((24 : Nat) != 0 && Nat.blt 24 100 && Nat.blt 60 119 && tg (TX24 60).2.2.1 == 2 && 1000 * 24 + 60 == 24060) = true := by decide +kernel
theorem g24061 : ((24 : Nat) != 0 && Nat.blt 24 100 && Nat.blt 61 119 && tg (TX24 61).2.2.1 == 2 && 1000 * 24 + 61 == 24061) = true := by decide +kernel
theorem g24062 : ((24 : Nat) != 0 && Nat.blt 24 100 && Nat.blt 62 119 && tg (TX24 62).2.2.1 == 2 && 1000 * 24 + 62 == 24062) = true := by decide +kernel
theorem g24063 : ((24 : Nat) != 0 && Nat.blt 24 100 && Nat.blt 63 119 && tg (TX24 63).2.2.1 == 0 && 1000 * 24 + 63 == 24063) = true := by decide +kernel
theorem g24064 : ((24 : Nat) != 0 && Nat.blt 24 100 && Nat.blt 64 119 && tg (TX24 64).2.2.1 == 2 && 1000 * 24 + 64 == 24064) = true := by decide +kernel
theorem g24065 : ((24 : Nat) != 0 && Nat.blt 24 100 && Nat.blt 65 119 && tg (TX24 65).2.2.1 == 2 && 1000 * 24 + 65 == 24065) = true := by decide +kernel
theorem g24066 : ((24 : Nat) != 0 && Nat.blt 24 100 && Nat.blt 66 119 && tg (TX24 66).2.2.1 == 2 && 1000 * 24 + 66 == 24066) = true := by decide +kernel
theorem g24067 : ((24 : Nat) != 0 && Nat.blt 24 100 && Nat.blt 67 119 && tg (TX24 67).2.2.1 == 0 && 1000 * 24 + 67 == 24067) = true := by decide +kernel
theorem g24068 : ((24 : Nat) != 0 && Nat.blt 24 100 && Nat.blt 68 119 && tg (TX24 68).2.2.1 == 2 && 1000 * 24 + 68 == 24068) = true := by decide +kernel
theorem g24069 : ((24 : Nat) != 0 && Nat.blt 24 100 && Nat.blt 69 119 && tg (TX24 69).2.2.1 == 2 && 1000 * 24 + 69 == 24069) = true := by decide +kernel
theorem g24070 : ((24 : Nat) != 0 && Nat.blt 24 100 && Nat.blt 70 119 && tg (TX24 70).2.2.1 == 0 && 1000 * 24 + 70 == 24070) = true := by decide +kernel
theorem g24071 : ((24 : Nat) != 0 && Nat.blt 24 100 && Nat.blt 71 119 && tg (TX24 71).2.2.1 == 2 && 1000 * 24 + 71 == 24071) = true := by decide +kernel
theorem g24072 : ((24 : Nat) != 0 && Nat.blt 24 100 && Nat.blt 72 119 && tg (TX24 72).2.2.1 == 2 && 1000 * 24 + 72 == 24072) = true := by decide +kernel
theorem g24073 : ((24 : Nat) != 0 && Nat.blt 24 100 && Nat.blt 73 119 && tg (TX24 73).2.2.1 == 0 && 1000 * 24 + 73 == 24073) = true := by decide +kernel
theorem g24074 : ((24 : Nat) != 0 && Nat.blt 24 100 && Nat.blt 74 119 && tg (TX24 74).2.2.1 == 0 && 1000 * 24 + 74 == 24074) = true := by decide +kernel
theorem g24075 : ((24 : Nat) != 0 && Nat.blt 24 100 && Nat.blt 75 119 && tg (TX24 75).2.2.1 == 2 && 1000 * 24 + 75 == 24075) = true := by decide +kernel
theorem g24076 : ((24 : Nat) != 0 && Nat.blt 24 100 && Nat.blt 76 119 && tg (TX24 76).2.2.1 == 2 && 1000 * 24 + 76 == 24076) = true := by decide +kernel
theorem g24077 : ((24 : Nat) != 0 && Nat.blt 24 100 && Nat.blt 77 119 && tg (TX24 77).2.2.1 == 0 && 1000 * 24 + 77 == 24077) = true := by decide +kernel
theorem g24078 : ((24 : Nat) != 0 && Nat.blt 24 100 && Nat.blt 78 119 && tg (TX24 78).2.2.1 == 0 && 1000 * 24 + 78 == 24078) = true := by decide +kernel
theorem g24079 : ((24 : Nat) != 0 && Nat.blt 24 100 && Nat.blt 79 119 && tg (TX24 79).2.2.1 == 2 && 1000 * 24 + 79 == 24079) = true := by decide +kernel
theorem g24080 : ((24 : Nat) != 0 && Nat.blt 24 100 && Nat.blt 80 119 && tg (TX24 80).2.2.1 == 0 && 1000 * 24 + 80 == 24080) = true := by decide +kernel
theorem g24081 : ((24 : Nat) != 0 && Nat.blt 24 100 && Nat.blt 81 119 && tg (TX24 81).2.2.1 == 0 && 1000 * 24 + 81 == 24081) = true := by decide +kernel
theorem g24082 : ((24 : Nat) != 0 && Nat.blt 24 100 && Nat.blt 82 119 && tg (TX24 82).2.2.1 == 0 && 1000 * 24 + 82 == 24082) = true := by decide +kernel
theorem g24083 : ((24 : Nat) != 0 && Nat.blt 24 100 && Nat.blt 83 119 && tg (TX24 83).2.2.1 == 2 && 1000 * 24 + 83 == 24083) = true := by decide +kernel
theorem g24084 : ((24 : Nat) != 0 && Nat.blt 24 100 && Nat.blt 84 119 && tg (TX24 84).2.2.1 == 0 && 1000 * 24 + 84 == 24084) = true := by decide +kernel
theorem g24085 : ((24 : Nat) != 0 && Nat.blt 24 100 && Nat.blt 85 119 && tg (TX24 85).2.2.1 == 2 && 1000 * 24 + 85 == 24085) = true := by decide +kernel
theorem g24086 : ((24 : Nat) != 0 && Nat.blt 24 100 && Nat.blt 86 119 && tg (TX24 86).2.2.1 == 2 && 1000 * 24 + 86 == 24086) = true := by decide +kernel
theorem g24087 : ((24 : Nat) != 0 && Nat.blt 24 100 && Nat.blt 87 119 && tg (TX24 87).2.2.1 == 2 && 1000 * 24 + 87 == 24087) = true := by decide +kernel
theorem g24088 : ((24 : Nat) != 0 && Nat.blt 24 100 && Nat.blt 88 119 && tg (TX24 88).2.2.1 == 2 && 1000 * 24 + 88 == 24088) = true := by decide +kernel
theorem g24089 : ((24 : Nat) != 0 && Nat.blt 24 100 && Nat.blt 89 119 && tg (TX24 89).2.2.1 == 0 && 1000 * 24 + 89 == 24089) = true := by decide +kernel
theorem g24090 : ((24 : Nat) != 0 && Nat.blt 24 100 && Nat.blt 90 119 && tg (TX24 90).2.2.1 == 2 && 1000 * 24 + 90 == 24090) = true := by decide +kernel
theorem g24091 : ((24 : Nat) != 0 && Nat.blt 24 100 && Nat.blt 91 119 && tg (TX24 91).2.2.1 == 0 && 1000 * 24 + 91 == 24091) = true := by decide +kernel
theorem g24092 : ((24 : Nat) != 0 && Nat.blt 24 100 && Nat.blt 92 119 && tg (TX24 92).2.2.1 == 0 && 1000 * 24 + 92 == 24092) = true := by decide +kernel
theorem g24093 : ((24 : Nat) != 0 && Nat.blt 24 100 && Nat.blt 93 119 && tg (TX24 93).2.2.1 == 1 && 1000 * 24 + 93 == 24093) = true := by decide +kernel
theorem g24094 : ((24 : Nat) != 0 && Nat.blt 24 100 && Nat.blt 94 119 && tg (TX24 94).2.2.1 == 0 && 1000 * 24 + 94 == 24094) = true := by decide +kernel
theorem g24095 : ((24 : Nat) != 0 && Nat.blt 24 100 && Nat.blt 95 119 && tg (TX24 95).2.2.1 == 2 && 1000 * 24 + 95 == 24095) = true := by decide +kernel
theorem g24096 : ((24 : Nat) != 0 && Nat.blt 24 100 && Nat.blt 96 119 && tg (TX24 96).2.2.1 == 2 && 1000 * 24 + 96 == 24096) = true := by decide +kernel
theorem g24097 : ((24 : Nat) != 0 && Nat.blt 24 100 && Nat.blt 97 119 && tg (TX24 97).2.2.1 == 2 && 1000 * 24 + 97 == 24097) = true := by decide +kernel
theorem g24098 : ((24 : Nat) != 0 && Nat.blt 24 100 && Nat.blt 98 119 && tg (TX24 98).2.2.1 == 2 && 1000 * 24 + 98 == 24098) = true := by decide +kernel
theorem g24099 : ((24 : Nat) != 0 && Nat.blt 24 100 && Nat.blt 99 119 && tg (TX24 99).2.2.1 == 2 && 1000 * 24 + 99 == 24099) = true := by decide +kernel
theorem g24100 : ((24 : Nat) != 0 && Nat.blt 24 100 && Nat.blt 100 119 && tg (TX24 100).2.2.1 == 2 && 1000 * 24 + 100 == 24100) = true := by decide +kernel
theorem g24101 : ((24 : Nat) != 0 && Nat.blt 24 100 && Nat.blt 101 119 && tg (TX24 101).2.2.1 == 2 && 1000 * 24 + 101 == 24101) = true := by decide +kernel
theorem g24102 : ((24 : Nat) != 0 && Nat.blt 24 100 && Nat.blt 102 119 && tg (TX24 102).2.2.1 == 2 && 1000 * 24 + 102 == 24102) = true := by decide +kernel
theorem g24103 : ((24 : Nat) != 0 && Nat.blt 24 100 && Nat.blt 103 119 && tg (TX24 103).2.2.1 == 2 && 1000 * 24 + 103 == 24103) = true := by decide +kernel
theorem g24104 : ((24 : Nat) != 0 && Nat.blt 24 100 && Nat.blt 104 119 && tg (TX24 104).2.2.1 == 2 && 1000 * 24 + 104 == 24104) = true := by decide +kernel
theorem g24105 : ((24 : Nat) != 0 && Nat.blt 24 100 && Nat.blt 105 119 && tg (TX24 105).2.2.1 == 2 && 1000 * 24 + 105 == 24105) = true := by decide +kernel
theorem g24106 : ((24 : Nat) != 0 && Nat.blt 24 100 && Nat.blt 106 119 && tg (TX24 106).2.2.1 == 2 && 1000 * 24 + 106 == 24106) = true := by decide +kernel
theorem g24107 : ((24 : Nat) != 0 && Nat.blt 24 100 && Nat.blt 107 119 && tg (TX24 107).2.2.1 == 0 && 1000 * 24 + 107 == 24107) = true := by decide +kernel
theorem g24108 : ((24 : Nat) != 0 && Nat.blt 24 100 && Nat.blt 108 119 && tg (TX24 108).2.2.1 == 2 && 1000 * 24 + 108 == 24108) = true := by decide +kernel
theorem g24109 : ((24 : Nat) != 0 && Nat.blt 24 100 && Nat.blt 109 119 && tg (TX24 109).2.2.1 == 2 && 1000 * 24 + 109 == 24109) = true := by decide +kernel
theorem g24110 : ((24 : Nat) != 0 && Nat.blt 24 100 && Nat.blt 110 119 && tg (TX24 110).2.2.1 == 0 && 1000 * 24 + 110 == 24110) = true := by decide +kernel
theorem g24111 : ((24 : Nat) != 0 && Nat.blt 24 100 && Nat.blt 111 119 && tg (TX24 111).2.2.1 == 0 && 1000 * 24 + 111 == 24111) = true := by decide +kernel
theorem g24112 : ((24 : Nat) != 0 && Nat.blt 24 100 && Nat.blt 112 119 && tg (TX24 112).2.2.1 == 2 && 1000 * 24 + 112 == 24112) = true := by decide +kernel
theorem g24113 : ((24 : Nat) != 0 && Nat.blt 24 100 && Nat.blt 113 119 && tg (TX24 113).2.2.1 == 2 && 1000 * 24 + 113 == 24113) = true := by decide +kernel
theorem g24114 : ((24 : Nat) != 0 && Nat.blt 24 100 && Nat.blt 114 119 && tg (TX24 114).2.2.1 == 2 && 1000 * 24 + 114 == 24114) = true := by decide +kernel
theorem g24115 : ((24 : Nat) != 0 && Nat.blt 24 100 && Nat.blt 115 119 && tg (TX24 115).2.2.1 == 2 && 1000 * 24 + 115 == 24115) = true := by decide +kernel
theorem g24116 : ((24 : Nat) != 0 && Nat.blt 24 100 && Nat.blt 116 119 && tg (TX24 116).2.2.1 == 0 && 1000 * 24 + 116 == 24116) = true := by decide +kernel
theorem g24117 : ((24 : Nat) != 0 && Nat.blt 24 100 && Nat.blt 117 119 && tg (TX24 117).2.2.1 == 2 && 1000 * 24 + 117 == 24117) = true := by decide +kernel
theorem g24118 : ((24 : Nat) != 0 && Nat.blt 24 100 && Nat.blt 118 119 && tg (TX24 118).2.2.1 == 2 && 1000 * 24 + 118 == 24118) = true := by decide +kernel
theorem kc25 : kcl[25]? = some (RX25, TX25, 3) := rfl
theorem g25000 : ((25 : Nat) != 0 && Nat.blt 25 100 && Nat.blt 0 3 && tg (TX25 0).2.2.1 == 2 && 1000 * 25 + 0 == 25000) = true := by decide +kernel
theorem g25001 : ((25 : Nat) != 0 && Nat.blt 25 100 && Nat.blt 1 3 && tg (TX25 1).2.2.1 == 2 && 1000 * 25 + 1 == 25001) = true := by decide +kernel
theorem g25002 : ((25 : Nat) != 0 && Nat.blt 25 100 && Nat.blt 2 3 && tg (TX25 2).2.2.1 == 2 && 1000 * 25 + 2 == 25002) = true := by decide +kernel
theorem kc26 : kcl[26]? = some (RX26, TX26, 9) := rfl
theorem g26000 : ((26 : Nat) != 0 && Nat.blt 26 100 && Nat.blt 0 9 && tg (TX26 0).2.2.1 == 2 && 1000 * 26 + 0 == 26000) = true := by decide +kernel
theorem g26001 : ((26 : Nat) != 0 && Nat.blt 26 100 && Nat.blt 1 9 && tg (TX26 1).2.2.1 == 0 && 1000 * 26 + 1 == 26001) = true := by decide +kernel
theorem g26002 : ((26 : Nat) != 0 && Nat.blt 26 100 && Nat.blt 2 9 && tg (TX26 2).2.2.1 == 2 && 1000 * 26 + 2 == 26002) = true := by decide +kernel
theorem g26003 : ((26 : Nat) != 0 && Nat.blt 26 100 && Nat.blt 3 9 && tg (TX26 3).2.2.1 == 2 && 1000 * 26 + 3 == 26003) = true := by decide +kernel
theorem g26004 : ((26 : Nat) != 0 && Nat.blt 26 100 && Nat.blt 4 9 && tg (TX26 4).2.2.1 == 2 && 1000 * 26 + 4 == 26004) = true := by decide +kernel
theorem g26005 : ((26 : Nat) != 0 && Nat.blt 26 100 && Nat.blt 5 9 && tg (TX26 5).2.2.1 == 2 && 1000 * 26 + 5 == 26005) = true := by decide +kernel
theorem g26006 : ((26 : Nat) != 0 && Nat.blt 26 100 && Nat.blt 6 9 && tg (TX26 6).2.2.1 == 2 && 1000 * 26 + 6 == 26006) = true := by decide +kernel
theorem g26007 : ((26 : Nat) != 0 && Nat.blt 26 100 && Nat.blt 7 9 && tg (TX26 7).2.2.1 == 2 && 1000 * 26 + 7 == 26007) = true := by decide +kernel
theorem g26008 : ((26 : Nat) != 0 && Nat.blt 26 100 && Nat.blt 8 9 && tg (TX26 8).2.2.1 == 2 && 1000 * 26 + 8 == 26008) = true := by decide +kernel
theorem kc27 : kcl[27]? = some (RX27, TX27, 8) := rfl
theorem g27000 : ((27 : Nat) != 0 && Nat.blt 27 100 && Nat.blt 0 8 && tg (TX27 0).2.2.1 == 2 && 1000 * 27 + 0 == 27000) = true := by decide +kernel
theorem g27001 : ((27 : Nat) != 0 && Nat.blt 27 100 && Nat.blt 1 8 && tg (TX27 1).2.2.1 == 0 && 1000 * 27 + 1 == 27001) = true := by decide +kernel
theorem g27002 : ((27 : Nat) != 0 && Nat.blt 27 100 && Nat.blt 2 8 && tg (TX27 2).2.2.1 == 2 && 1000 * 27 + 2 == 27002) = true := by decide +kernel
theorem g27003 : ((27 : Nat) != 0 && Nat.blt 27 100 && Nat.blt 3 8 && tg (TX27 3).2.2.1 == 2 && 1000 * 27 + 3 == 27003) = true := by decide +kernel
theorem g27004 : ((27 : Nat) != 0 && Nat.blt 27 100 && Nat.blt 4 8 && tg (TX27 4).2.2.1 == 2 && 1000 * 27 + 4 == 27004) = true := by decide +kernel
theorem g27005 : ((27 : Nat) != 0 && Nat.blt 27 100 && Nat.blt 5 8 && tg (TX27 5).2.2.1 == 2 && 1000 * 27 + 5 == 27005) = true := by decide +kernel
theorem g27006 : ((27 : Nat) != 0 && Nat.blt 27 100 && Nat.blt 6 8 && tg (TX27 6).2.2.1 == 2 && 1000 * 27 + 6 == 27006) = true := by decide +kernel
theorem g27007 : ((27 : Nat) != 0 && Nat.blt 27 100 && Nat.blt 7 8 && tg (TX27 7).2.2.1 == 2 && 1000 * 27 + 7 == 27007) = true := by decide +kernel
theorem kc28 : kcl[28]? = some (RX28, TX28, 9) := rfl
theorem g28000 : ((28 : Nat) != 0 && Nat.blt 28 100 && Nat.blt 0 9 && tg (TX28 0).2.2.1 == 2 && 1000 * 28 + 0 == 28000) = true := by decide +kernel
theorem g28001 : ((28 : Nat) != 0 && Nat.blt 28 100 && Nat.blt 1 9 && tg (TX28 1).2.2.1 == 0 && 1000 * 28 + 1 == 28001) = true := by decide +kernel
theorem g28002 : ((28 : Nat) != 0 && Nat.blt 28 100 && Nat.blt 2 9 && tg (TX28 2).2.2.1 == 2 && 1000 * 28 + 2 == 28002) = true := by decide +kernel
theorem g28003 : ((28 : Nat) != 0 && Nat.blt 28 100 && Nat.blt 3 9 && tg (TX28 3).2.2.1 == 2 && 1000 * 28 + 3 == 28003) = true := by decide +kernel
theorem g28004 : ((28 : Nat) != 0 && Nat.blt 28 100 && Nat.blt 4 9 && tg (TX28 4).2.2.1 == 0 && 1000 * 28 + 4 == 28004) = true := by decide +kernel
theorem g28005 : ((28 : Nat) != 0 && Nat.blt 28 100 && Nat.blt 5 9 && tg (TX28 5).2.2.1 == 0 && 1000 * 28 + 5 == 28005) = true := by decide +kernel
theorem g28006 : ((28 : Nat) != 0 && Nat.blt 28 100 && Nat.blt 6 9 && tg (TX28 6).2.2.1 == 0 && 1000 * 28 + 6 == 28006) = true := by decide +kernel
theorem g28007 : ((28 : Nat) != 0 && Nat.blt 28 100 && Nat.blt 7 9 && tg (TX28 7).2.2.1 == 0 && 1000 * 28 + 7 == 28007) = true := by decide +kernel
theorem g28008 : ((28 : Nat) != 0 && Nat.blt 28 100 && Nat.blt 8 9 && tg (TX28 8).2.2.1 == 2 && 1000 * 28 + 8 == 28008) = true := by decide +kernel
theorem kc29 : kcl[29]? = some (RJ13, TJ13, 3) := rfl
theorem g29000 : ((29 : Nat) != 0 && Nat.blt 29 100 && Nat.blt 0 3 && tg (TJ13 0).2.2.1 == 0 && 1000 * 29 + 0 == 29000) = true := by decide +kernel
theorem g29001 : ((29 : Nat) != 0 && Nat.blt 29 100 && Nat.blt 1 3 && tg (TJ13 1).2.2.1 == 2 && 1000 * 29 + 1 == 29001) = true := by decide +kernel
theorem g29002 : ((29 : Nat) != 0 && Nat.blt 29 100 && Nat.blt 2 3 && tg (TJ13 2).2.2.1 == 0 && 1000 * 29 + 2 == 29002) = true := by decide +kernel
theorem kc30 : kcl[30]? = some (RJ8, TJ8, 6) := rfl
theorem g30000 : ((30 : Nat) != 0 && Nat.blt 30 100 && Nat.blt 0 6 && tg (TJ8 0).2.2.1 == 2 && 1000 * 30 + 0 == 30000) = true := by decide +kernel
theorem g30001 : ((30 : Nat) != 0 && Nat.blt 30 100 && Nat.blt 1 6 && tg (TJ8 1).2.2.1 == 2 && 1000 * 30 + 1 == 30001) = true := by decide +kernel
theorem g30002 : ((30 : Nat) != 0 && Nat.blt 30 100 && Nat.blt 2 6 && tg (TJ8 2).2.2.1 == 2 && 1000 * 30 + 2 == 30002) = true := by decide +kernel
theorem g30003 : ((30 : Nat) != 0 && Nat.blt 30 100 && Nat.blt 3 6 && tg (TJ8 3).2.2.1 == 2 && 1000 * 30 + 3 == 30003) = true := by decide +kernel
theorem g30004 : ((30 : Nat) != 0 && Nat.blt 30 100 && Nat.blt 4 6 && tg (TJ8 4).2.2.1 == 2 && 1000 * 30 + 4 == 30004) = true := by decide +kernel
theorem g30005 : ((30 : Nat) != 0 && Nat.blt 30 100 && Nat.blt 5 6 && tg (TJ8 5).2.2.1 == 0 && 1000 * 30 + 5 == 30005) = true := by decide +kernel
theorem kc31 : kcl[31]? = some (RJ18, TJ18, 6) := rfl
theorem g31000 : ((31 : Nat) != 0 && Nat.blt 31 100 && Nat.blt 0 6 && tg (TJ18 0).2.2.1 == 2 && 1000 * 31 + 0 == 31000) = true := by decide +kernel
theorem g31001 : ((31 : Nat) != 0 && Nat.blt 31 100 && Nat.blt 1 6 && tg (TJ18 1).2.2.1 == 2 && 1000 * 31 + 1 == 31001) = true := by decide +kernel
theorem g31002 : ((31 : Nat) != 0 && Nat.blt 31 100 && Nat.blt 2 6 && tg (TJ18 2).2.2.1 == 2 && 1000 * 31 + 2 == 31002) = true := by decide +kernel
theorem g31003 : ((31 : Nat) != 0 && Nat.blt 31 100 && Nat.blt 3 6 && tg (TJ18 3).2.2.1 == 2 && 1000 * 31 + 3 == 31003) = true := by decide +kernel
theorem g31004 : ((31 : Nat) != 0 && Nat.blt 31 100 && Nat.blt 4 6 && tg (TJ18 4).2.2.1 == 2 && 1000 * 31 + 4 == 31004) = true := by decide +kernel
theorem g31005 : ((31 : Nat) != 0 && Nat.blt 31 100 && Nat.blt 5 6 && tg (TJ18 5).2.2.1 == 0 && 1000 * 31 + 5 == 31005) = true := by decide +kernel
theorem kc32 : kcl[32]? = some (RJ19, TJ19, 6) := rfl
theorem g32000 : ((32 : Nat) != 0 && Nat.blt 32 100 && Nat.blt 0 6 && tg (TJ19 0).2.2.1 == 2 && 1000 * 32 + 0 == 32000) = true := by decide +kernel
theorem g32001 : ((32 : Nat) != 0 && Nat.blt 32 100 && Nat.blt 1 6 && tg (TJ19 1).2.2.1 == 2 && 1000 * 32 + 1 == 32001) = true := by decide +kernel
theorem g32002 : ((32 : Nat) != 0 && Nat.blt 32 100 && Nat.blt 2 6 && tg (TJ19 2).2.2.1 == 2 && 1000 * 32 + 2 == 32002) = true := by decide +kernel
theorem g32003 : ((32 : Nat) != 0 && Nat.blt 32 100 && Nat.blt 3 6 && tg (TJ19 3).2.2.1 == 2 && 1000 * 32 + 3 == 32003) = true := by decide +kernel
theorem g32004 : ((32 : Nat) != 0 && Nat.blt 32 100 && Nat.blt 4 6 && tg (TJ19 4).2.2.1 == 2 && 1000 * 32 + 4 == 32004) = true := by decide +kernel
theorem g32005 : ((32 : Nat) != 0 && Nat.blt 32 100 && Nat.blt 5 6 && tg (TJ19 5).2.2.1 == 0 && 1000 * 32 + 5 == 32005) = true := by decide +kernel
theorem kc33 : kcl[33]? = some (RJ20, TJ20, 6) := rfl
theorem g33000 : ((33 : Nat) != 0 && Nat.blt 33 100 && Nat.blt 0 6 && tg (TJ20 0).2.2.1 == 2 && 1000 * 33 + 0 == 33000) = true := by decide +kernel
theorem g33001 : ((33 : Nat) != 0 && Nat.blt 33 100 && Nat.blt 1 6 && tg (TJ20 1).2.2.1 == 2 && 1000 * 33 + 1 == 33001) = true := by decide +kernel
theorem g33002 : ((33 : Nat) != 0 && Nat.blt 33 100 && Nat.blt 2 6 && tg (TJ20 2).2.2.1 == 2 && 1000 * 33 + 2 == 33002) = true := by decide +kernel
theorem g33003 : ((33 : Nat) != 0 && Nat.blt 33 100 && Nat.blt 3 6 && tg (TJ20 3).2.2.1 == 2 && 1000 * 33 + 3 == 33003) = true := by decide +kernel
theorem g33004 : ((33 : Nat) != 0 && Nat.blt 33 100 && Nat.blt 4 6 && tg (TJ20 4).2.2.1 == 2 && 1000 * 33 + 4 == 33004) = true := by decide +kernel
theorem g33005 : ((33 : Nat) != 0 && Nat.blt 33 100 && Nat.blt 5 6 && tg (TJ20 5).2.2.1 == 0 && 1000 * 33 + 5 == 33005) = true := by decide +kernel
theorem kc34 : kcl[34]? = some (RJ17, TJ17, 6) := rfl
theorem g34000 : ((34 : Nat) != 0 && Nat.blt 34 100 && Nat.blt 0 6 && tg (TJ17 0).2.2.1 == 2 && 1000 * 34 + 0 == 34000) = true := by decide +kernel
theorem g34001 : ((34 : Nat) != 0 && Nat.blt 34 100 && Nat.blt 1 6 && tg (TJ17 1).2.2.1 == 2 && 1000 * 34 + 1 == 34001) = true := by decide +kernel
theorem g34002 : ((34 : Nat) != 0 && Nat.blt 34 100 && Nat.blt 2 6 && tg (TJ17 2).2.2.1 == 2 && 1000 * 34 + 2 == 34002) = true := by decide +kernel
theorem g34003 : ((34 : Nat) != 0 && Nat.blt 34 100 && Nat.blt 3 6 && tg (TJ17 3).2.2.1 == 2 && 1000 * 34 + 3 == 34003) = true := by decide +kernel
theorem g34004 : ((34 : Nat) != 0 && Nat.blt 34 100 && Nat.blt 4 6 && tg (TJ17 4).2.2.1 == 0 && 1000 * 34 + 4 == 34004) = true := by decide +kernel
theorem g34005 : ((34 : Nat) != 0 && Nat.blt 34 100 && Nat.blt 5 6 && tg (TJ17 5).2.2.1 == 2 && 1000 * 34 + 5 == 34005) = true := by decide +kernel
theorem kc35 : kcl[35]? = some (RJ1, TJ1, 2) := rfl
theorem g35000 : ((35 : Nat) != 0 && Nat.blt 35 100 && Nat.blt 0 2 && tg (TJ1 0).2.2.1 == 2 && 1000 * 35 + 0 == 35000) = true := by decide +kernel
theorem g35001 : ((35 : Nat) != 0 && Nat.blt 35 100 && Nat.blt 1 2 && tg (TJ1 1).2.2.1 == 0 && 1000 * 35 + 1 == 35001) = true := by decide +kernel
